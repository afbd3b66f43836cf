set_option maxRecDepth 100000
def B_L_law_2847 (G : wG) (rec23 : Nat → Nat → Nat → Nat → Int32 → wM → Nat → Prop) (Q : Bool → wM → Prop) (x0 : Nat) (x1 : Nat) (x2 : Nat) (x3 : Nat) (x4 : Int32) (M : wM) (bq : Nat) : Prop :=
  rec23 x0 x1 x2 x3 (x4 + 6) M bq
def B_L_law_475 (G : wG) (rec23 : Nat → Nat → Nat → Nat → Int32 → wM → Nat → Prop) (Q : Bool → wM → Prop) (x0 : Nat) (x1 : Nat) (x2 : Nat) (x3 : Nat) (x4 : Int32) (M : wM) (bq : Nat) : Prop :=
  B_L_law_2847 G rec23 Q x0 x1 x2 x3 x4 M bq
def B_L_law_543 (G : wG) (rec23 : Nat → Nat → Nat → Nat → Int32 → wM → Nat → Prop) (Q : Bool → wM → Prop) (x0 : Nat) (x1 : Nat) (x2 : Nat) (x3 : Nat) (x4 : Int32) (M : wM) (bq : Nat) : Prop :=
  B_L_law_2847 G rec23 Q x0 x1 x2 x3 x4 M bq
def B_L_law_611 (G : wG) (rec23 : Nat → Nat → Nat → Nat → Int32 → wM → Nat → Prop) (Q : Bool → wM → Prop) (x0 : Nat) (x1 : Nat) (x2 : Nat) (x3 : Nat) (x4 : Int32) (M : wM) (bq : Nat) : Prop :=
  B_L_law_2847 G rec23 Q x0 x1 x2 x3 x4 M bq
def B_L_law_667 (G : wG) (rec23 : Nat → Nat → Nat → Nat → Int32 → wM → Nat → Prop) (Q : Bool → wM → Prop) (x0 : Nat) (x1 : Nat) (x2 : Nat) (x3 : Nat) (x4 : Int32) (M : wM) (bq : Nat) : Prop :=
  B_L_law_2847 G rec23 Q x0 x1 x2 x3 x4 M bq
def B_L_law_723 (G : wG) (rec23 : Nat → Nat → Nat → Nat → Int32 → wM → Nat → Prop) (Q : Bool → wM → Prop) (x0 : Nat) (x1 : Nat) (x2 : Nat) (x3 : Nat) (x4 : Int32) (M : wM) (bq : Nat) : Prop :=
  B_L_law_2847 G rec23 Q x0 x1 x2 x3 x4 M bq
def B_L_law_791 (G : wG) (rec23 : Nat → Nat → Nat → Nat → Int32 → wM → Nat → Prop) (Q : Bool → wM → Prop) (x0 : Nat) (x1 : Nat) (x2 : Nat) (x3 : Nat) (x4 : Int32) (M : wM) (bq : Nat) : Prop :=
  B_L_law_2847 G rec23 Q x0 x1 x2 x3 x4 M bq
def B_L_law_859 (G : wG) (rec23 : Nat → Nat → Nat → Nat → Int32 → wM → Nat → Prop) (Q : Bool → wM → Prop) (x0 : Nat) (x1 : Nat) (x2 : Nat) (x3 : Nat) (x4 : Int32) (M : wM) (bq : Nat) : Prop :=
  B_L_law_2847 G rec23 Q x0 x1 x2 x3 x4 M bq
def B_L_law_915 (G : wG) (rec23 : Nat → Nat → Nat → Nat → Int32 → wM → Nat → Prop) (Q : Bool → wM → Prop) (x0 : Nat) (x1 : Nat) (x2 : Nat) (x3 : Nat) (x4 : Int32) (M : wM) (bq : Nat) : Prop :=
  B_L_law_2847 G rec23 Q x0 x1 x2 x3 x4 M bq
def B_L_law_996 (G : wG) (rec23 : Nat → Nat → Nat → Nat → Int32 → wM → Nat → Prop) (Q : Bool → wM → Prop) (x0 : Nat) (x1 : Nat) (x2 : Nat) (x3 : Nat) (x4 : Int32) (M : wM) (bq : Nat) : Prop :=
  B_L_law_2847 G rec23 Q x0 x1 x2 x3 x4 M bq
def B_L_law_1064 (G : wG) (rec23 : Nat → Nat → Nat → Nat → Int32 → wM → Nat → Prop) (Q : Bool → wM → Prop) (x0 : Nat) (x1 : Nat) (x2 : Nat) (x3 : Nat) (x4 : Int32) (M : wM) (bq : Nat) : Prop :=
  B_L_law_2847 G rec23 Q x0 x1 x2 x3 x4 M bq
def B_L_law_1132 (G : wG) (rec23 : Nat → Nat → Nat → Nat → Int32 → wM → Nat → Prop) (Q : Bool → wM → Prop) (x0 : Nat) (x1 : Nat) (x2 : Nat) (x3 : Nat) (x4 : Int32) (M : wM) (bq : Nat) : Prop :=
  B_L_law_2847 G rec23 Q x0 x1 x2 x3 x4 M bq
def B_L_law_1225 (G : wG) (rec23 : Nat → Nat → Nat → Nat → Int32 → wM → Nat → Prop) (Q : Bool → wM → Prop) (x0 : Nat) (x1 : Nat) (x2 : Nat) (x3 : Nat) (x4 : Int32) (M : wM) (bq : Nat) : Prop :=
  B_L_law_2847 G rec23 Q x0 x1 x2 x3 x4 M bq
def B_L_law_1281 (G : wG) (rec23 : Nat → Nat → Nat → Nat → Int32 → wM → Nat → Prop) (Q : Bool → wM → Prop) (x0 : Nat) (x1 : Nat) (x2 : Nat) (x3 : Nat) (x4 : Int32) (M : wM) (bq : Nat) : Prop :=
  B_L_law_2847 G rec23 Q x0 x1 x2 x3 x4 M bq
def B_L_law_1349 (G : wG) (rec23 : Nat → Nat → Nat → Nat → Int32 → wM → Nat → Prop) (Q : Bool → wM → Prop) (x0 : Nat) (x1 : Nat) (x2 : Nat) (x3 : Nat) (x4 : Int32) (M : wM) (bq : Nat) : Prop :=
  B_L_law_2847 G rec23 Q x0 x1 x2 x3 x4 M bq
def B_L_law_1405 (G : wG) (rec23 : Nat → Nat → Nat → Nat → Int32 → wM → Nat → Prop) (Q : Bool → wM → Prop) (x0 : Nat) (x1 : Nat) (x2 : Nat) (x3 : Nat) (x4 : Int32) (M : wM) (bq : Nat) : Prop :=
  B_L_law_2847 G rec23 Q x0 x1 x2 x3 x4 M bq
def B_L_law_1461 (G : wG) (rec23 : Nat → Nat → Nat → Nat → Int32 → wM → Nat → Prop) (Q : Bool → wM → Prop) (x0 : Nat) (x1 : Nat) (x2 : Nat) (x3 : Nat) (x4 : Int32) (M : wM) (bq : Nat) : Prop :=
  B_L_law_2847 G rec23 Q x0 x1 x2 x3 x4 M bq
def B_L_law_1504 (G : wG) (rec23 : Nat → Nat → Nat → Nat → Int32 → wM → Nat → Prop) (Q : Bool → wM → Prop) (x0 : Nat) (x1 : Nat) (x2 : Nat) (x3 : Nat) (x4 : Int32) (M : wM) (bq : Nat) : Prop :=
  B_L_law_2847 G rec23 Q x0 x1 x2 x3 x4 M bq
def B_L_law_1560 (G : wG) (rec23 : Nat → Nat → Nat → Nat → Int32 → wM → Nat → Prop) (Q : Bool → wM → Prop) (x0 : Nat) (x1 : Nat) (x2 : Nat) (x3 : Nat) (x4 : Int32) (M : wM) (bq : Nat) : Prop :=
  B_L_law_2847 G rec23 Q x0 x1 x2 x3 x4 M bq
def B_L_law_1628 (G : wG) (rec23 : Nat → Nat → Nat → Nat → Int32 → wM → Nat → Prop) (Q : Bool → wM → Prop) (x0 : Nat) (x1 : Nat) (x2 : Nat) (x3 : Nat) (x4 : Int32) (M : wM) (bq : Nat) : Prop :=
  B_L_law_2847 G rec23 Q x0 x1 x2 x3 x4 M bq
def B_L_law_1684 (G : wG) (rec23 : Nat → Nat → Nat → Nat → Int32 → wM → Nat → Prop) (Q : Bool → wM → Prop) (x0 : Nat) (x1 : Nat) (x2 : Nat) (x3 : Nat) (x4 : Int32) (M : wM) (bq : Nat) : Prop :=
  B_L_law_2847 G rec23 Q x0 x1 x2 x3 x4 M bq
def B_L_law_1740 (G : wG) (rec23 : Nat → Nat → Nat → Nat → Int32 → wM → Nat → Prop) (Q : Bool → wM → Prop) (x0 : Nat) (x1 : Nat) (x2 : Nat) (x3 : Nat) (x4 : Int32) (M : wM) (bq : Nat) : Prop :=
  B_L_law_2847 G rec23 Q x0 x1 x2 x3 x4 M bq
def B_L_law_1796 (G : wG) (rec23 : Nat → Nat → Nat → Nat → Int32 → wM → Nat → Prop) (Q : Bool → wM → Prop) (x0 : Nat) (x1 : Nat) (x2 : Nat) (x3 : Nat) (x4 : Int32) (M : wM) (bq : Nat) : Prop :=
  B_L_law_2847 G rec23 Q x0 x1 x2 x3 x4 M bq
def B_L_law_1876 (G : wG) (rec23 : Nat → Nat → Nat → Nat → Int32 → wM → Nat → Prop) (Q : Bool → wM → Prop) (x0 : Nat) (x1 : Nat) (x2 : Nat) (x3 : Nat) (x4 : Int32) (M : wM) (bq : Nat) : Prop :=
  B_L_law_2847 G rec23 Q x0 x1 x2 x3 x4 M bq
def B_L_law_1944 (G : wG) (rec23 : Nat → Nat → Nat → Nat → Int32 → wM → Nat → Prop) (Q : Bool → wM → Prop) (x0 : Nat) (x1 : Nat) (x2 : Nat) (x3 : Nat) (x4 : Int32) (M : wM) (bq : Nat) : Prop :=
  B_L_law_2847 G rec23 Q x0 x1 x2 x3 x4 M bq
def B_L_law_2000 (G : wG) (rec23 : Nat → Nat → Nat → Nat → Int32 → wM → Nat → Prop) (Q : Bool → wM → Prop) (x0 : Nat) (x1 : Nat) (x2 : Nat) (x3 : Nat) (x4 : Int32) (M : wM) (bq : Nat) : Prop :=
  B_L_law_2847 G rec23 Q x0 x1 x2 x3 x4 M bq
def B_L_law_2068 (G : wG) (rec23 : Nat → Nat → Nat → Nat → Int32 → wM → Nat → Prop) (Q : Bool → wM → Prop) (x0 : Nat) (x1 : Nat) (x2 : Nat) (x3 : Nat) (x4 : Int32) (M : wM) (bq : Nat) : Prop :=
  B_L_law_2847 G rec23 Q x0 x1 x2 x3 x4 M bq
def B_L_law_2124 (G : wG) (rec23 : Nat → Nat → Nat → Nat → Int32 → wM → Nat → Prop) (Q : Bool → wM → Prop) (x0 : Nat) (x1 : Nat) (x2 : Nat) (x3 : Nat) (x4 : Int32) (M : wM) (bq : Nat) : Prop :=
  B_L_law_2847 G rec23 Q x0 x1 x2 x3 x4 M bq
def B_L_law_2180 (G : wG) (rec23 : Nat → Nat → Nat → Nat → Int32 → wM → Nat → Prop) (Q : Bool → wM → Prop) (x0 : Nat) (x1 : Nat) (x2 : Nat) (x3 : Nat) (x4 : Int32) (M : wM) (bq : Nat) : Prop :=
  B_L_law_2847 G rec23 Q x0 x1 x2 x3 x4 M bq
def B_L_law_2243 (G : wG) (rec23 : Nat → Nat → Nat → Nat → Int32 → wM → Nat → Prop) (Q : Bool → wM → Prop) (x0 : Nat) (x1 : Nat) (x2 : Nat) (x3 : Nat) (x4 : Int32) (M : wM) (bq : Nat) : Prop :=
  B_L_law_2847 G rec23 Q x0 x1 x2 x3 x4 M bq
def B_L_law_2237 (G : wG) (rec23 : Nat → Nat → Nat → Nat → Int32 → wM → Nat → Prop) (Q : Bool → wM → Prop) (x0 : Nat) (x1 : Nat) (x2 : Nat) (x3 : Nat) (x4 : Int32) (y0 : Int64) (y1 : Int64) (M : wM) (bq : Nat) : Prop :=
  oIf ((lg_cmp y1 y0) = 0) (B_L_law_2243 G rec23 Q x0 x1 x2 x3 x4 M bq) (False)
def B_L_law_2311 (G : wG) (rec23 : Nat → Nat → Nat → Nat → Int32 → wM → Nat → Prop) (Q : Bool → wM → Prop) (x0 : Nat) (x1 : Nat) (x2 : Nat) (x3 : Nat) (x4 : Int32) (M : wM) (bq : Nat) : Prop :=
  B_L_law_2847 G rec23 Q x0 x1 x2 x3 x4 M bq
def B_L_law_2402 (G : wG) (rec23 : Nat → Nat → Nat → Nat → Int32 → wM → Nat → Prop) (Q : Bool → wM → Prop) (x0 : Nat) (x1 : Nat) (x2 : Nat) (x3 : Nat) (x4 : Int32) (M : wM) (bq : Nat) : Prop :=
  B_L_law_2847 G rec23 Q x0 x1 x2 x3 x4 M bq
def B_L_law_2396 (G : wG) (rec23 : Nat → Nat → Nat → Nat → Int32 → wM → Nat → Prop) (Q : Bool → wM → Prop) (x0 : Nat) (x1 : Nat) (x2 : Nat) (x3 : Nat) (x4 : Int32) (y0 : Int64) (y1 : Int64) (M : wM) (bq : Nat) : Prop :=
  oIf ((lg_cmp y1 y0) = 0) (B_L_law_2402 G rec23 Q x0 x1 x2 x3 x4 M bq) (False)
def B_L_law_2362 (G : wG) (rec23 : Nat → Nat → Nat → Nat → Int32 → wM → Nat → Prop) (Q : Bool → wM → Prop) (x0 : Nat) (x1 : Nat) (x2 : Nat) (x3 : Nat) (x4 : Int32) (x5 : Int32) (y0 : Int32) (y1 : Int32) (y2 : Nat) (M : wM) (bq : Nat) : Prop :=
  oIs M y2 3 (P_X4_suspend G y2 y1 y0 M (fun r3 M1 => oIs M1 x2 3 (P_X4_thrown G x2 M1 (fun v6 M4 => oIf (v6 = x5) (oIf (x5 = 0) (oLald M4 x3 (0 : Int32) (fun v7 => oIf (r3 = true) (B_L_law_2396 G rec23 Q x0 x1 x2 x3 x4 (1 : Int64) v7 M4 bq) (B_L_law_2396 G rec23 Q x0 x1 x2 x3 x4 (0 : Int64) v7 M4 bq))) (B_L_law_2402 G rec23 Q x0 x1 x2 x3 x4 M4 bq)) (False)))))
def B_L_law_2335 (G : wG) (rec23 : Nat → Nat → Nat → Nat → Int32 → wM → Nat → Prop) (Q : Bool → wM → Prop) (x0 : Nat) (x1 : Nat) (x2 : Nat) (x3 : Nat) (x4 : Int32) (y0 : Int32) (y1 : Int32) (y2 : Nat) (M : wM) (bq : Nat) : Prop :=
  ∃ c2, c2 ≤ bq ∧ P_X0_suspend G y2 y1 y0 x3 c2 M (fun v3 M1 => oIald .int M1 x0 (x4 + (1 : Int32)) (fun v4 => oIald .int M1 x0 (x4 + (2 : Int32)) (fun v5 => oIf (v5 = 0) (B_L_law_2362 G rec23 Q x0 x1 x2 x3 x4 v3 (0 : Int32) v4 x2 M1 (bq - c2)) (B_L_law_2362 G rec23 Q x0 x1 x2 x3 x4 v3 (1 : Int32) v4 x2 M1 (bq - c2)))))
def B_L_law_2446 (G : wG) (rec23 : Nat → Nat → Nat → Nat → Int32 → wM → Nat → Prop) (Q : Bool → wM → Prop) (x0 : Nat) (x1 : Nat) (x2 : Nat) (x3 : Nat) (x4 : Int32) (M : wM) (bq : Nat) : Prop :=
  B_L_law_2847 G rec23 Q x0 x1 x2 x3 x4 M bq
def B_L_law_2514 (G : wG) (rec23 : Nat → Nat → Nat → Nat → Int32 → wM → Nat → Prop) (Q : Bool → wM → Prop) (x0 : Nat) (x1 : Nat) (x2 : Nat) (x3 : Nat) (x4 : Int32) (M : wM) (bq : Nat) : Prop :=
  B_L_law_2847 G rec23 Q x0 x1 x2 x3 x4 M bq
def B_L_law_2582 (G : wG) (rec23 : Nat → Nat → Nat → Nat → Int32 → wM → Nat → Prop) (Q : Bool → wM → Prop) (x0 : Nat) (x1 : Nat) (x2 : Nat) (x3 : Nat) (x4 : Int32) (M : wM) (bq : Nat) : Prop :=
  B_L_law_2847 G rec23 Q x0 x1 x2 x3 x4 M bq
def B_L_law_2650 (G : wG) (rec23 : Nat → Nat → Nat → Nat → Int32 → wM → Nat → Prop) (Q : Bool → wM → Prop) (x0 : Nat) (x1 : Nat) (x2 : Nat) (x3 : Nat) (x4 : Int32) (M : wM) (bq : Nat) : Prop :=
  B_L_law_2847 G rec23 Q x0 x1 x2 x3 x4 M bq
def B_L_law_2706 (G : wG) (rec23 : Nat → Nat → Nat → Nat → Int32 → wM → Nat → Prop) (Q : Bool → wM → Prop) (x0 : Nat) (x1 : Nat) (x2 : Nat) (x3 : Nat) (x4 : Int32) (M : wM) (bq : Nat) : Prop :=
  B_L_law_2847 G rec23 Q x0 x1 x2 x3 x4 M bq
def B_L_law_2762 (G : wG) (rec23 : Nat → Nat → Nat → Nat → Int32 → wM → Nat → Prop) (Q : Bool → wM → Prop) (x0 : Nat) (x1 : Nat) (x2 : Nat) (x3 : Nat) (x4 : Int32) (M : wM) (bq : Nat) : Prop :=
  B_L_law_2847 G rec23 Q x0 x1 x2 x3 x4 M bq
def B_L_law_2844 (G : wG) (rec23 : Nat → Nat → Nat → Nat → Int32 → wM → Nat → Prop) (Q : Bool → wM → Prop) (x0 : Nat) (x1 : Nat) (x2 : Nat) (x3 : Nat) (x4 : Int32) (M : wM) (bq : Nat) : Prop :=
  B_L_law_2847 G rec23 Q x0 x1 x2 x3 x4 M bq
def B_L_law_23 (G : wG) (rec23 : Nat → Nat → Nat → Nat → Int32 → wM → Nat → Prop) (Q : Bool → wM → Prop) (x0 : Nat) (x1 : Nat) (x2 : Nat) (x3 : Nat) (x4 : Int32) (M : wM) (bq : Nat) : Prop :=
  oAlen .int M x0 (fun v1 => oIf ((v1 - (6 : Int32)) < x4) (True) (oIald .int M x0 x4 (fun v2 => oIf ((v2 &&& (63 : Int32)) = (0 : Int32)) (oIald .int M x0 (x4 + (1 : Int32)) (fun v3 => oIald .int M x0 (x4 + (2 : Int32)) (fun v4 => oIald .int M x0 (x4 + (3 : Int32)) (fun v5 => oIald .int M x0 (x4 + (4 : Int32)) (fun v6 => oIald .int M x0 (x4 + (5 : Int32)) (fun v7 => oIs M x1 0 (P_X1_feed G x1 v3 v4 v5 v6 v7 M (fun v10 M8 => oIald .int M8 x0 (x4 + (1 : Int32)) (fun v11 => oIald .int M8 x0 (x4 + (2 : Int32)) (fun v12 => oIald .int M8 x0 (x4 + (3 : Int32)) (fun v13 => oIald .int M8 x0 (x4 + (4 : Int32)) (fun v14 => oIald .int M8 x0 (x4 + (5 : Int32)) (fun v15 => oIs M8 x2 3 (P_X4_feed G x2 v11 v12 v13 v14 v15 M8 (fun v18 M16 => oIf (v10 = v18) (B_L_law_2847 G rec23 Q x0 x1 x2 x3 x4 M16 bq) (False)))))))))))))))) (oIf ((v2 &&& (63 : Int32)) = (1 : Int32)) (oIald .int M x0 (x4 + (1 : Int32)) (fun v19 => oIs M x1 0 (P_X1_truncate G x1 v19 M (fun r22 M20 => oIald .int M20 x0 (x4 + (1 : Int32)) (fun v23 => oIs M20 x2 3 (P_X4_truncate G x2 v23 M20 (fun r26 M24 => oIf ((wb r22) = (wb r26)) (B_L_law_2847 G rec23 Q x0 x1 x2 x3 x4 M24 bq) (False)))))))) (oIf ((v2 &&& (63 : Int32)) = (2 : Int32)) (oIs M x1 0 (∃ c28, c28 ≤ bq ∧ P_X1_parse G x1 c28 M (fun v29 M27 => oIs M27 x2 3 (P_X4_parse G x2 M27 (fun v32 M30 => oIf (v29 = v32) (B_L_law_2847 G rec23 Q x0 x1 x2 x3 x4 M30 (bq - c28)) (False)))))) (oIf ((v2 &&& (63 : Int32)) = (3 : Int32)) (oIs M x1 0 (P_X1_errorCode G x1 M (fun v35 M33 => oIs M33 x2 3 (P_X4_errorCode G x2 M33 (fun v38 M36 => oIf (v35 = v38) (B_L_law_2847 G rec23 Q x0 x1 x2 x3 x4 M36 bq) (False)))))) (oIf ((v2 &&& (63 : Int32)) = (4 : Int32)) (oIs M x1 0 (P_X1_errorOffset G x1 M (fun v41 M39 => oIs M39 x2 3 (P_X4_errorOffset G x2 M39 (fun v44 M42 => oIf (v41 = v44) (B_L_law_2847 G rec23 Q x0 x1 x2 x3 x4 M42 bq) (False)))))) (oIf ((v2 &&& (63 : Int32)) = (5 : Int32)) (oIald .int M x0 (x4 + (1 : Int32)) (fun v45 => oIs M x1 0 (P_X1_count G x1 v45 M (fun v48 M46 => oIald .int M46 x0 (x4 + (1 : Int32)) (fun v49 => oIs M46 x2 3 (P_X4_count G x2 v49 M46 (fun v52 M50 => oIf (v48 = v52) (B_L_law_2847 G rec23 Q x0 x1 x2 x3 x4 M50 bq) (False)))))))) (oIf ((v2 &&& (63 : Int32)) = (6 : Int32)) (oIald .int M x0 (x4 + (1 : Int32)) (fun v53 => oIald .int M x0 (x4 + (2 : Int32)) (fun v54 => ∃ c56, c56 ≤ bq ∧ P_X0_zone G x1 v53 v54 x3 c56 M (fun v57 M55 => oIald .int M55 x0 (x4 + (1 : Int32)) (fun v58 => oIald .int M55 x0 (x4 + (2 : Int32)) (fun v59 => oIs M55 x2 3 (P_X4_zone G x2 v58 v59 M55 (fun v62 M60 => oIs M60 x2 3 (P_X4_thrown G x2 M60 (fun v65 M63 => oIf (v65 = v57) (oIf (v57 = 0) (oLald M63 x3 (0 : Int32) (fun v66 => oIf ((lg_cmp v66 (v62.toInt64)) = 0) (B_L_law_475 G rec23 Q x0 x1 x2 x3 x4 M63 (bq - c56)) (False))) (B_L_law_475 G rec23 Q x0 x1 x2 x3 x4 M63 (bq - c56))) (False))))))))))) (oIf ((v2 &&& (63 : Int32)) = (7 : Int32)) (oIald .int M x0 (x4 + (1 : Int32)) (fun v67 => oIald .int M x0 (x4 + (2 : Int32)) (fun v68 => ∃ c70, c70 ≤ bq ∧ P_X0_street G x1 v67 v68 x3 c70 M (fun v71 M69 => oIald .int M69 x0 (x4 + (1 : Int32)) (fun v72 => oIald .int M69 x0 (x4 + (2 : Int32)) (fun v73 => oIs M69 x2 3 (P_X4_street G x2 v72 v73 M69 (fun v76 M74 => oIs M74 x2 3 (P_X4_thrown G x2 M74 (fun v79 M77 => oIf (v79 = v71) (oIf (v71 = 0) (oLald M77 x3 (0 : Int32) (fun v80 => oIf ((lg_cmp v80 (v76.toInt64)) = 0) (B_L_law_543 G rec23 Q x0 x1 x2 x3 x4 M77 (bq - c70)) (False))) (B_L_law_543 G rec23 Q x0 x1 x2 x3 x4 M77 (bq - c70))) (False))))))))))) (oIf ((v2 &&& (63 : Int32)) = (8 : Int32)) (oIald .int M x0 (x4 + (1 : Int32)) (fun v81 => oIald .int M x0 (x4 + (2 : Int32)) (fun v82 => ∃ c84, c84 ≤ bq ∧ P_X0_house G x1 v81 v82 x3 c84 M (fun v85 M83 => oIald .int M83 x0 (x4 + (1 : Int32)) (fun v86 => oIald .int M83 x0 (x4 + (2 : Int32)) (fun v87 => oIs M83 x2 3 (P_X4_house G x2 v86 v87 M83 (fun v90 M88 => oIs M88 x2 3 (P_X4_thrown G x2 M88 (fun v93 M91 => oIf (v93 = v85) (oIf (v85 = 0) (oLald M91 x3 (0 : Int32) (fun v94 => oIf ((lg_cmp v94 (v90.toInt64)) = 0) (B_L_law_611 G rec23 Q x0 x1 x2 x3 x4 M91 (bq - c84)) (False))) (B_L_law_611 G rec23 Q x0 x1 x2 x3 x4 M91 (bq - c84))) (False))))))))))) (oIf ((v2 &&& (63 : Int32)) = (9 : Int32)) (oIald .int M x0 (x4 + (1 : Int32)) (fun v95 => ∃ c97, c97 ≤ bq ∧ P_X0_amount G x1 v95 x3 c97 M (fun v98 M96 => oIald .int M96 x0 (x4 + (1 : Int32)) (fun v99 => oIs M96 x2 3 (P_X4_amount G x2 v99 M96 (fun v102 M100 => oIs M100 x2 3 (P_X4_thrown G x2 M100 (fun v105 M103 => oIf (v105 = v98) (oIf (v98 = 0) (oLald M103 x3 (0 : Int32) (fun v106 => oIf ((lg_cmp v106 (v102.toInt64)) = 0) (B_L_law_667 G rec23 Q x0 x1 x2 x3 x4 M103 (bq - c97)) (False))) (B_L_law_667 G rec23 Q x0 x1 x2 x3 x4 M103 (bq - c97))) (False))))))))) (oIf ((v2 &&& (63 : Int32)) = (10 : Int32)) (oIald .int M x0 (x4 + (1 : Int32)) (fun v107 => ∃ c109, c109 ≤ bq ∧ P_X0_find G x1 v107 x3 c109 M (fun v110 M108 => oIald .int M108 x0 (x4 + (1 : Int32)) (fun v111 => oIs M108 x2 3 (P_X4_find G x2 v111 M108 (fun v114 M112 => oIs M112 x2 3 (P_X4_thrown G x2 M112 (fun v117 M115 => oIf (v117 = v110) (oIf (v110 = 0) (oLald M115 x3 (0 : Int32) (fun v118 => oIf ((lg_cmp v118 (v114.toInt64)) = 0) (B_L_law_723 G rec23 Q x0 x1 x2 x3 x4 M115 (bq - c109)) (False))) (B_L_law_723 G rec23 Q x0 x1 x2 x3 x4 M115 (bq - c109))) (False))))))))) (oIf ((v2 &&& (63 : Int32)) = (11 : Int32)) (oIald .int M x0 (x4 + (1 : Int32)) (fun v119 => oIald .int M x0 (x4 + (2 : Int32)) (fun v120 => ∃ c122, c122 ≤ bq ∧ P_X0_permit G x1 v119 v120 x3 c122 M (fun v123 M121 => oIald .int M121 x0 (x4 + (1 : Int32)) (fun v124 => oIald .int M121 x0 (x4 + (2 : Int32)) (fun v125 => oIs M121 x2 3 (P_X4_permit G x2 v124 v125 M121 (fun v128 M126 => oIs M126 x2 3 (P_X4_thrown G x2 M126 (fun v131 M129 => oIf (v131 = v123) (oIf (v123 = 0) (oLald M129 x3 (0 : Int32) (fun v132 => oIf ((lg_cmp v132 (v128.toInt64)) = 0) (B_L_law_791 G rec23 Q x0 x1 x2 x3 x4 M129 (bq - c122)) (False))) (B_L_law_791 G rec23 Q x0 x1 x2 x3 x4 M129 (bq - c122))) (False))))))))))) (oIf ((v2 &&& (63 : Int32)) = (12 : Int32)) (oIald .int M x0 (x4 + (1 : Int32)) (fun v133 => oIald .int M x0 (x4 + (2 : Int32)) (fun v134 => ∃ c136, c136 ≤ bq ∧ P_X0_waiting G x1 v133 v134 x3 c136 M (fun v137 M135 => oIald .int M135 x0 (x4 + (1 : Int32)) (fun v138 => oIald .int M135 x0 (x4 + (2 : Int32)) (fun v139 => oIs M135 x2 3 (P_X4_waiting G x2 v138 v139 M135 (fun v142 M140 => oIs M140 x2 3 (P_X4_thrown G x2 M140 (fun v145 M143 => oIf (v145 = v137) (oIf (v137 = 0) (oLald M143 x3 (0 : Int32) (fun v146 => oIf ((lg_cmp v146 (v142.toInt64)) = 0) (B_L_law_859 G rec23 Q x0 x1 x2 x3 x4 M143 (bq - c136)) (False))) (B_L_law_859 G rec23 Q x0 x1 x2 x3 x4 M143 (bq - c136))) (False))))))))))) (oIf ((v2 &&& (63 : Int32)) = (13 : Int32)) (oIald .int M x0 (x4 + (1 : Int32)) (fun v147 => ∃ c149, c149 ≤ bq ∧ P_X0_waitingPlace G x1 v147 x3 c149 M (fun v150 M148 => oIald .int M148 x0 (x4 + (1 : Int32)) (fun v151 => oIs M148 x2 3 (P_X4_waitingPlace G x2 v151 M148 (fun v154 M152 => oIs M152 x2 3 (P_X4_thrown G x2 M152 (fun v157 M155 => oIf (v157 = v150) (oIf (v150 = 0) (oLald M155 x3 (0 : Int32) (fun v158 => oIf ((lg_cmp v158 (v154.toInt64)) = 0) (B_L_law_915 G rec23 Q x0 x1 x2 x3 x4 M155 (bq - c149)) (False))) (B_L_law_915 G rec23 Q x0 x1 x2 x3 x4 M155 (bq - c149))) (False))))))))) (oIf ((v2 &&& (63 : Int32)) = (14 : Int32)) (oIald .int M x0 (x4 + (1 : Int32)) (fun v159 => oIs M x1 0 (∃ c161, c161 ≤ bq ∧ P_X1_permitOf G x1 v159 c161 M (fun v162 M160 => oIald .int M160 x0 (x4 + (1 : Int32)) (fun v163 => oIs M160 x2 3 (P_X4_permitOf G x2 v163 M160 (fun v166 M164 => oIf (v162 = v166) (B_L_law_2847 G rec23 Q x0 x1 x2 x3 x4 M164 (bq - c161)) (False)))))))) (oIf ((v2 &&& (63 : Int32)) = (15 : Int32)) (oIald .int M x0 (x4 + (1 : Int32)) (fun v167 => ∃ c169, c169 ≤ bq ∧ P_X0_nextToExpire G x1 v167 x3 c169 M (fun v170 M168 => oIald .int M168 x0 (x4 + (1 : Int32)) (fun v171 => oIs M168 x2 3 (P_X4_nextToExpire G x2 v171 M168 (fun v174 M172 => oIs M172 x2 3 (P_X4_thrown G x2 M172 (fun v177 M175 => oIf (v177 = v170) (oIf (v170 = 0) (oLald M175 x3 (0 : Int32) (fun v178 => oIf ((lg_cmp v178 (v174.toInt64)) = 0) (B_L_law_996 G rec23 Q x0 x1 x2 x3 x4 M175 (bq - c169)) (False))) (B_L_law_996 G rec23 Q x0 x1 x2 x3 x4 M175 (bq - c169))) (False))))))))) (oIf ((v2 &&& (63 : Int32)) = (16 : Int32)) (oIald .int M x0 (x4 + (1 : Int32)) (fun v179 => oIald .int M x0 (x4 + (2 : Int32)) (fun v180 => ∃ c182, c182 ≤ bq ∧ P_X0_visit G x1 v179 v180 x3 c182 M (fun v183 M181 => oIald .int M181 x0 (x4 + (1 : Int32)) (fun v184 => oIald .int M181 x0 (x4 + (2 : Int32)) (fun v185 => oIs M181 x2 3 (P_X4_visit G x2 v184 v185 M181 (fun v188 M186 => oIs M186 x2 3 (P_X4_thrown G x2 M186 (fun v191 M189 => oIf (v191 = v183) (oIf (v183 = 0) (oLald M189 x3 (0 : Int32) (fun v192 => oIf ((lg_cmp v192 (v188.toInt64)) = 0) (B_L_law_1064 G rec23 Q x0 x1 x2 x3 x4 M189 (bq - c182)) (False))) (B_L_law_1064 G rec23 Q x0 x1 x2 x3 x4 M189 (bq - c182))) (False))))))))))) (oIf ((v2 &&& (63 : Int32)) = (17 : Int32)) (oIald .int M x0 (x4 + (1 : Int32)) (fun v193 => oIald .int M x0 (x4 + (2 : Int32)) (fun v194 => ∃ c196, c196 ≤ bq ∧ P_X0_car G x1 v193 v194 x3 c196 M (fun v197 M195 => oIald .int M195 x0 (x4 + (1 : Int32)) (fun v198 => oIald .int M195 x0 (x4 + (2 : Int32)) (fun v199 => oIs M195 x2 3 (P_X4_car G x2 v198 v199 M195 (fun v202 M200 => oIs M200 x2 3 (P_X4_thrown G x2 M200 (fun v205 M203 => oIf (v205 = v197) (oIf (v197 = 0) (oLald M203 x3 (0 : Int32) (fun v206 => oIf ((lg_cmp v206 (v202.toInt64)) = 0) (B_L_law_1132 G rec23 Q x0 x1 x2 x3 x4 M203 (bq - c196)) (False))) (B_L_law_1132 G rec23 Q x0 x1 x2 x3 x4 M203 (bq - c196))) (False))))))))))) (oIf ((v2 &&& (63 : Int32)) = (18 : Int32)) (oIald .int M x0 (x4 + (1 : Int32)) (fun v207 => oIs M x1 0 (∃ c209, c209 ≤ bq ∧ P_X1_streetOf G x1 v207 c209 M (fun v210 M208 => oIald .int M208 x0 (x4 + (1 : Int32)) (fun v211 => oIs M208 x2 3 (P_X4_streetOf G x2 v211 M208 (fun v214 M212 => oIf (v210 = v214) (B_L_law_2847 G rec23 Q x0 x1 x2 x3 x4 M212 (bq - c209)) (False)))))))) (oIf ((v2 &&& (63 : Int32)) = (19 : Int32)) (oIald .int M x0 (x4 + (1 : Int32)) (fun v215 => oIald .int M x0 (x4 + (2 : Int32)) (fun v216 => ∃ c218, c218 ≤ bq ∧ P_X0_rule G x1 v215 v216 x3 c218 M (fun v219 M217 => oIald .int M217 x0 (x4 + (1 : Int32)) (fun v220 => oIald .int M217 x0 (x4 + (2 : Int32)) (fun v221 => oIs M217 x2 3 (P_X4_rule G x2 v220 v221 M217 (fun v224 M222 => oIs M222 x2 3 (P_X4_thrown G x2 M222 (fun v227 M225 => oIf (v227 = v219) (oIf (v219 = 0) (oLald M225 x3 (0 : Int32) (fun v228 => oIf ((lg_cmp v228 (v224.toInt64)) = 0) (B_L_law_1225 G rec23 Q x0 x1 x2 x3 x4 M225 (bq - c218)) (False))) (B_L_law_1225 G rec23 Q x0 x1 x2 x3 x4 M225 (bq - c218))) (False))))))))))) (oIf ((v2 &&& (63 : Int32)) = (20 : Int32)) (oIald .int M x0 (x4 + (1 : Int32)) (fun v229 => ∃ c231, c231 ≤ bq ∧ P_X0_bestStreet G x1 v229 x3 c231 M (fun v232 M230 => oIald .int M230 x0 (x4 + (1 : Int32)) (fun v233 => oIs M230 x2 3 (P_X4_bestStreet G x2 v233 M230 (fun v236 M234 => oIs M234 x2 3 (P_X4_thrown G x2 M234 (fun v239 M237 => oIf (v239 = v232) (oIf (v232 = 0) (oLald M237 x3 (0 : Int32) (fun v240 => oIf ((lg_cmp v240 (v236.toInt64)) = 0) (B_L_law_1281 G rec23 Q x0 x1 x2 x3 x4 M237 (bq - c231)) (False))) (B_L_law_1281 G rec23 Q x0 x1 x2 x3 x4 M237 (bq - c231))) (False))))))))) (oIf ((v2 &&& (63 : Int32)) = (21 : Int32)) (oIald .int M x0 (x4 + (1 : Int32)) (fun v241 => oIald .int M x0 (x4 + (2 : Int32)) (fun v242 => ∃ c244, c244 ≤ bq ∧ P_X0_fine G x1 v241 v242 x3 c244 M (fun v245 M243 => oIald .int M243 x0 (x4 + (1 : Int32)) (fun v246 => oIald .int M243 x0 (x4 + (2 : Int32)) (fun v247 => oIs M243 x2 3 (P_X4_fine G x2 v246 v247 M243 (fun v250 M248 => oIs M248 x2 3 (P_X4_thrown G x2 M248 (fun v253 M251 => oIf (v253 = v245) (oIf (v245 = 0) (oLald M251 x3 (0 : Int32) (fun v254 => oIf ((lg_cmp v254 (v250.toInt64)) = 0) (B_L_law_1349 G rec23 Q x0 x1 x2 x3 x4 M251 (bq - c244)) (False))) (B_L_law_1349 G rec23 Q x0 x1 x2 x3 x4 M251 (bq - c244))) (False))))))))))) (oIf ((v2 &&& (63 : Int32)) = (22 : Int32)) (oIald .int M x0 (x4 + (1 : Int32)) (fun v255 => ∃ c257, c257 ≤ bq ∧ P_X0_total G x1 v255 x3 c257 M (fun v258 M256 => oIald .int M256 x0 (x4 + (1 : Int32)) (fun v259 => oIs M256 x2 3 (P_X4_total G x2 v259 M256 (fun v262 M260 => oIs M260 x2 3 (P_X4_thrown G x2 M260 (fun v265 M263 => oIf (v265 = v258) (oIf (v258 = 0) (oLald M263 x3 (0 : Int32) (fun v266 => oIf ((lg_cmp v266 (v262.toInt64)) = 0) (B_L_law_1405 G rec23 Q x0 x1 x2 x3 x4 M263 (bq - c257)) (False))) (B_L_law_1405 G rec23 Q x0 x1 x2 x3 x4 M263 (bq - c257))) (False))))))))) (oIf ((v2 &&& (63 : Int32)) = (23 : Int32)) (oIald .int M x0 (x4 + (1 : Int32)) (fun v267 => ∃ c269, c269 ≤ bq ∧ P_X0_finesBy G x1 v267 x3 c269 M (fun v270 M268 => oIald .int M268 x0 (x4 + (1 : Int32)) (fun v271 => oIs M268 x2 3 (P_X4_finesBy G x2 v271 M268 (fun v274 M272 => oIs M272 x2 3 (P_X4_thrown G x2 M272 (fun v277 M275 => oIf (v277 = v270) (oIf (v270 = 0) (oLald M275 x3 (0 : Int32) (fun v278 => oIf ((lg_cmp v278 (v274.toInt64)) = 0) (B_L_law_1461 G rec23 Q x0 x1 x2 x3 x4 M275 (bq - c269)) (False))) (B_L_law_1461 G rec23 Q x0 x1 x2 x3 x4 M275 (bq - c269))) (False))))))))) (oIf ((v2 &&& (63 : Int32)) = (24 : Int32)) (oIs M x1 0 (∃ c280, c280 ≤ bq ∧ P_X1_withdrawnShare G x1 c280 M (fun v281 M279 => vf_n64 (FP.f2d v281) ∧ (oIs M279 x2 3 (P_X4_withdrawnShare G x2 M279 (fun v284 M282 => vf_n64 (FP.f2d v284) ∧ (oIf ((Op.cmpValue (FP.dcmp (FP.f2d v281) (FP.f2d v284)) .l) = 0) (B_L_law_1504 G rec23 Q x0 x1 x2 x3 x4 M282 (bq - c280)) (oIf ((Op.cmpValue (FP.dcmp (FP.f2d v281) (FP.f2d v281)) .l) = 0) (False) (oIf ((Op.cmpValue (FP.dcmp (FP.f2d v284) (FP.f2d v284)) .l) = 0) (False) (B_L_law_1504 G rec23 Q x0 x1 x2 x3 x4 M282 (bq - c280))))))))))) (oIf ((v2 &&& (63 : Int32)) = (25 : Int32)) (oIald .int M x0 (x4 + (1 : Int32)) (fun v285 => ∃ c287, c287 ≤ bq ∧ P_X0_pass G x1 v285 x3 c287 M (fun v288 M286 => oIald .int M286 x0 (x4 + (1 : Int32)) (fun v289 => oIs M286 x2 3 (P_X4_pass G x2 v289 M286 (fun v292 M290 => oIs M290 x2 3 (P_X4_thrown G x2 M290 (fun v295 M293 => oIf (v295 = v288) (oIf (v288 = 0) (oLald M293 x3 (0 : Int32) (fun v296 => oIf ((lg_cmp v296 (v292.toInt64)) = 0) (B_L_law_1560 G rec23 Q x0 x1 x2 x3 x4 M293 (bq - c287)) (False))) (B_L_law_1560 G rec23 Q x0 x1 x2 x3 x4 M293 (bq - c287))) (False))))))))) (oIf ((v2 &&& (63 : Int32)) = (26 : Int32)) (oIald .int M x0 (x4 + (1 : Int32)) (fun v297 => oIald .int M x0 (x4 + (2 : Int32)) (fun v298 => ∃ c300, c300 ≤ bq ∧ P_X0_apply G x1 v297 v298 x3 c300 M (fun v301 M299 => oIald .int M299 x0 (x4 + (1 : Int32)) (fun v302 => oIald .int M299 x0 (x4 + (2 : Int32)) (fun v303 => oIs M299 x2 3 (P_X4_apply G x2 v302 v303 M299 (fun v306 M304 => oIs M304 x2 3 (P_X4_thrown G x2 M304 (fun v309 M307 => oIf (v309 = v301) (oIf (v301 = 0) (oLald M307 x3 (0 : Int32) (fun v310 => oIf ((lg_cmp v310 (v306.toInt64)) = 0) (B_L_law_1628 G rec23 Q x0 x1 x2 x3 x4 M307 (bq - c300)) (False))) (B_L_law_1628 G rec23 Q x0 x1 x2 x3 x4 M307 (bq - c300))) (False))))))))))) (oIf ((v2 &&& (63 : Int32)) = (27 : Int32)) (oIald .int M x0 (x4 + (1 : Int32)) (fun v311 => ∃ c313, c313 ≤ bq ∧ P_X0_accept G x1 v311 x3 c313 M (fun v314 M312 => oIald .int M312 x0 (x4 + (1 : Int32)) (fun v315 => oIs M312 x2 3 (P_X4_accept G x2 v315 M312 (fun v318 M316 => oIs M316 x2 3 (P_X4_thrown G x2 M316 (fun v321 M319 => oIf (v321 = v314) (oIf (v314 = 0) (oLald M319 x3 (0 : Int32) (fun v322 => oIf ((lg_cmp v322 (v318.toInt64)) = 0) (B_L_law_1684 G rec23 Q x0 x1 x2 x3 x4 M319 (bq - c313)) (False))) (B_L_law_1684 G rec23 Q x0 x1 x2 x3 x4 M319 (bq - c313))) (False))))))))) (oIf ((v2 &&& (63 : Int32)) = (28 : Int32)) (oIald .int M x0 (x4 + (1 : Int32)) (fun v323 => ∃ c325, c325 ≤ bq ∧ P_X0_renew G x1 v323 x3 c325 M (fun v326 M324 => oIald .int M324 x0 (x4 + (1 : Int32)) (fun v327 => oIs M324 x2 3 (P_X4_renew G x2 v327 M324 (fun v330 M328 => oIs M328 x2 3 (P_X4_thrown G x2 M328 (fun v333 M331 => oIf (v333 = v326) (oIf (v326 = 0) (oLald M331 x3 (0 : Int32) (fun v334 => oIf ((lg_cmp v334 (v330.toInt64)) = 0) (B_L_law_1740 G rec23 Q x0 x1 x2 x3 x4 M331 (bq - c325)) (False))) (B_L_law_1740 G rec23 Q x0 x1 x2 x3 x4 M331 (bq - c325))) (False))))))))) (oIf ((v2 &&& (63 : Int32)) = (29 : Int32)) (oIald .int M x0 (x4 + (1 : Int32)) (fun v335 => ∃ c337, c337 ≤ bq ∧ P_X0_cancel G x1 v335 x3 c337 M (fun v338 M336 => oIald .int M336 x0 (x4 + (1 : Int32)) (fun v339 => oIs M336 x2 3 (P_X4_cancel G x2 v339 M336 (fun v342 M340 => oIs M340 x2 3 (P_X4_thrown G x2 M340 (fun v345 M343 => oIf (v345 = v338) (oIf (v338 = 0) (oLald M343 x3 (0 : Int32) (fun v346 => oIf ((lg_cmp v346 (v342.toInt64)) = 0) (B_L_law_1796 G rec23 Q x0 x1 x2 x3 x4 M343 (bq - c337)) (False))) (B_L_law_1796 G rec23 Q x0 x1 x2 x3 x4 M343 (bq - c337))) (False))))))))) (oIf ((v2 &&& (63 : Int32)) = (30 : Int32)) (oIald .int M x0 (x4 + (1 : Int32)) (fun v347 => oIald .int M x0 (x4 + (2 : Int32)) (fun v348 => oIald .int M x0 (x4 + (3 : Int32)) (fun v349 => ∃ c351, c351 ≤ bq ∧ P_X0_admit G x1 v347 v348 v349 x3 c351 M (fun v352 M350 => oIald .int M350 x0 (x4 + (1 : Int32)) (fun v353 => oIald .int M350 x0 (x4 + (2 : Int32)) (fun v354 => oIald .int M350 x0 (x4 + (3 : Int32)) (fun v355 => oIs M350 x2 3 (P_X4_admit G x2 v353 v354 v355 M350 (fun v358 M356 => oIs M356 x2 3 (P_X4_thrown G x2 M356 (fun v361 M359 => oIf (v361 = v352) (oIf (v352 = 0) (oLald M359 x3 (0 : Int32) (fun v362 => oIf ((lg_cmp v362 (v358.toInt64)) = 0) (B_L_law_1876 G rec23 Q x0 x1 x2 x3 x4 M359 (bq - c351)) (False))) (B_L_law_1876 G rec23 Q x0 x1 x2 x3 x4 M359 (bq - c351))) (False))))))))))))) (oIf ((v2 &&& (63 : Int32)) = (31 : Int32)) (oIald .int M x0 (x4 + (1 : Int32)) (fun v363 => oIald .int M x0 (x4 + (2 : Int32)) (fun v364 => ∃ c366, c366 ≤ bq ∧ P_X0_extend G x1 v363 v364 x3 c366 M (fun v367 M365 => oIald .int M365 x0 (x4 + (1 : Int32)) (fun v368 => oIald .int M365 x0 (x4 + (2 : Int32)) (fun v369 => oIs M365 x2 3 (P_X4_extend G x2 v368 v369 M365 (fun v372 M370 => oIs M370 x2 3 (P_X4_thrown G x2 M370 (fun v375 M373 => oIf (v375 = v367) (oIf (v367 = 0) (oLald M373 x3 (0 : Int32) (fun v376 => oIf ((lg_cmp v376 (v372.toInt64)) = 0) (B_L_law_1944 G rec23 Q x0 x1 x2 x3 x4 M373 (bq - c366)) (False))) (B_L_law_1944 G rec23 Q x0 x1 x2 x3 x4 M373 (bq - c366))) (False))))))))))) (oIf ((v2 &&& (63 : Int32)) = (32 : Int32)) (oIald .int M x0 (x4 + (1 : Int32)) (fun v377 => ∃ c379, c379 ≤ bq ∧ P_X0_endVisit G x1 v377 x3 c379 M (fun v380 M378 => oIald .int M378 x0 (x4 + (1 : Int32)) (fun v381 => oIs M378 x2 3 (P_X4_endVisit G x2 v381 M378 (fun v384 M382 => oIs M382 x2 3 (P_X4_thrown G x2 M382 (fun v387 M385 => oIf (v387 = v380) (oIf (v380 = 0) (oLald M385 x3 (0 : Int32) (fun v388 => oIf ((lg_cmp v388 (v384.toInt64)) = 0) (B_L_law_2000 G rec23 Q x0 x1 x2 x3 x4 M385 (bq - c379)) (False))) (B_L_law_2000 G rec23 Q x0 x1 x2 x3 x4 M385 (bq - c379))) (False))))))))) (oIf ((v2 &&& (63 : Int32)) = (33 : Int32)) (oIald .int M x0 (x4 + (1 : Int32)) (fun v389 => oIald .int M x0 (x4 + (2 : Int32)) (fun v390 => ∃ c392, c392 ≤ bq ∧ P_X0_park G x1 v389 v390 x3 c392 M (fun v393 M391 => oIald .int M391 x0 (x4 + (1 : Int32)) (fun v394 => oIald .int M391 x0 (x4 + (2 : Int32)) (fun v395 => oIs M391 x2 3 (P_X4_park G x2 v394 v395 M391 (fun v398 M396 => oIs M396 x2 3 (P_X4_thrown G x2 M396 (fun v401 M399 => oIf (v401 = v393) (oIf (v393 = 0) (oLald M399 x3 (0 : Int32) (fun v402 => oIf ((lg_cmp v402 (v398.toInt64)) = 0) (B_L_law_2068 G rec23 Q x0 x1 x2 x3 x4 M399 (bq - c392)) (False))) (B_L_law_2068 G rec23 Q x0 x1 x2 x3 x4 M399 (bq - c392))) (False))))))))))) (oIf ((v2 &&& (63 : Int32)) = (34 : Int32)) (oIald .int M x0 (x4 + (1 : Int32)) (fun v403 => ∃ c405, c405 ≤ bq ∧ P_X0_leave G x1 v403 x3 c405 M (fun v406 M404 => oIald .int M404 x0 (x4 + (1 : Int32)) (fun v407 => oIs M404 x2 3 (P_X4_leave G x2 v407 M404 (fun v410 M408 => oIs M408 x2 3 (P_X4_thrown G x2 M408 (fun v413 M411 => oIf (v413 = v406) (oIf (v406 = 0) (oLald M411 x3 (0 : Int32) (fun v414 => oIf ((lg_cmp v414 (v410.toInt64)) = 0) (B_L_law_2124 G rec23 Q x0 x1 x2 x3 x4 M411 (bq - c405)) (False))) (B_L_law_2124 G rec23 Q x0 x1 x2 x3 x4 M411 (bq - c405))) (False))))))))) (oIf ((v2 &&& (63 : Int32)) = (35 : Int32)) (oIald .int M x0 (x4 + (1 : Int32)) (fun v415 => ∃ c417, c417 ≤ bq ∧ P_X0_inspect G x1 v415 x3 c417 M (fun v418 M416 => oIald .int M416 x0 (x4 + (1 : Int32)) (fun v419 => oIs M416 x2 3 (P_X4_inspect G x2 v419 M416 (fun v422 M420 => oIs M420 x2 3 (P_X4_thrown G x2 M420 (fun v425 M423 => oIf (v425 = v418) (oIf (v418 = 0) (oLald M423 x3 (0 : Int32) (fun v426 => oIf ((lg_cmp v426 (v422.toInt64)) = 0) (B_L_law_2180 G rec23 Q x0 x1 x2 x3 x4 M423 (bq - c417)) (False))) (B_L_law_2180 G rec23 Q x0 x1 x2 x3 x4 M423 (bq - c417))) (False))))))))) (oIf ((v2 &&& (63 : Int32)) = (36 : Int32)) (oIald .int M x0 (x4 + (1 : Int32)) (fun v427 => ∃ c429, c429 ≤ bq ∧ P_X0_appeal G x1 v427 x3 c429 M (fun v430 M428 => oIald .int M428 x0 (x4 + (1 : Int32)) (fun v431 => oIs M428 x2 3 (P_X4_appeal G x2 v431 M428 (fun r434 M432 => oIs M432 x2 3 (P_X4_thrown G x2 M432 (fun v437 M435 => oIf (v437 = v430) (oIf (v430 = 0) (oLald M435 x3 (0 : Int32) (fun v438 => oIf (r434 = true) (B_L_law_2237 G rec23 Q x0 x1 x2 x3 x4 (1 : Int64) v438 M435 (bq - c429)) (B_L_law_2237 G rec23 Q x0 x1 x2 x3 x4 (0 : Int64) v438 M435 (bq - c429)))) (B_L_law_2243 G rec23 Q x0 x1 x2 x3 x4 M435 (bq - c429))) (False))))))))) (oIf ((v2 &&& (63 : Int32)) = (37 : Int32)) (oIald .int M x0 (x4 + (1 : Int32)) (fun v439 => oIald .int M x0 (x4 + (2 : Int32)) (fun v440 => ∃ c442, c442 ≤ bq ∧ P_X0_setLimit G x1 v439 v440 x3 c442 M (fun v443 M441 => oIald .int M441 x0 (x4 + (1 : Int32)) (fun v444 => oIald .int M441 x0 (x4 + (2 : Int32)) (fun v445 => oIs M441 x2 3 (P_X4_setLimit G x2 v444 v445 M441 (fun v448 M446 => oIs M446 x2 3 (P_X4_thrown G x2 M446 (fun v451 M449 => oIf (v451 = v443) (oIf (v443 = 0) (oLald M449 x3 (0 : Int32) (fun v452 => oIf ((lg_cmp v452 (v448.toInt64)) = 0) (B_L_law_2311 G rec23 Q x0 x1 x2 x3 x4 M449 (bq - c442)) (False))) (B_L_law_2311 G rec23 Q x0 x1 x2 x3 x4 M449 (bq - c442))) (False))))))))))) (oIf ((v2 &&& (63 : Int32)) = (38 : Int32)) (oIald .int M x0 (x4 + (1 : Int32)) (fun v453 => oIald .int M x0 (x4 + (2 : Int32)) (fun v454 => oIf (v454 = 0) (B_L_law_2335 G rec23 Q x0 x1 x2 x3 x4 (0 : Int32) v453 x1 M bq) (B_L_law_2335 G rec23 Q x0 x1 x2 x3 x4 (1 : Int32) v453 x1 M bq)))) (oIf ((v2 &&& (63 : Int32)) = (39 : Int32)) (∃ c456, c456 ≤ bq ∧ P_X0_undo G x1 x3 c456 M (fun v457 M455 => oIs M455 x2 3 (P_X4_undo G x2 M455 (fun v460 M458 => oIs M458 x2 3 (P_X4_thrown G x2 M458 (fun v463 M461 => oIf (v463 = v457) (oIf (v457 = 0) (oLald M461 x3 (0 : Int32) (fun v464 => oIf ((lg_cmp v464 (v460.toInt64)) = 0) (B_L_law_2446 G rec23 Q x0 x1 x2 x3 x4 M461 (bq - c456)) (False))) (B_L_law_2446 G rec23 Q x0 x1 x2 x3 x4 M461 (bq - c456))) (False))))))) (oIf ((v2 &&& (63 : Int32)) = (40 : Int32)) (oIald .int M x0 (x4 + (1 : Int32)) (fun v465 => oIald .int M x0 (x4 + (2 : Int32)) (fun v466 => ∃ c468, c468 ≤ bq ∧ P_X0_offerIn G x1 v465 v466 x3 c468 M (fun v469 M467 => oIald .int M467 x0 (x4 + (1 : Int32)) (fun v470 => oIald .int M467 x0 (x4 + (2 : Int32)) (fun v471 => oIs M467 x2 3 (P_X4_offerIn G x2 v470 v471 M467 (fun v474 M472 => oIs M472 x2 3 (P_X4_thrown G x2 M472 (fun v477 M475 => oIf (v477 = v469) (oIf (v469 = 0) (oLald M475 x3 (0 : Int32) (fun v478 => oIf ((lg_cmp v478 (v474.toInt64)) = 0) (B_L_law_2514 G rec23 Q x0 x1 x2 x3 x4 M475 (bq - c468)) (False))) (B_L_law_2514 G rec23 Q x0 x1 x2 x3 x4 M475 (bq - c468))) (False))))))))))) (oIf ((v2 &&& (63 : Int32)) = (41 : Int32)) (oIald .int M x0 (x4 + (1 : Int32)) (fun v479 => oIald .int M x0 (x4 + (2 : Int32)) (fun v480 => ∃ c482, c482 ≤ bq ∧ P_X0_finesIn G x1 v479 v480 x3 c482 M (fun v483 M481 => oIald .int M481 x0 (x4 + (1 : Int32)) (fun v484 => oIald .int M481 x0 (x4 + (2 : Int32)) (fun v485 => oIs M481 x2 3 (P_X4_finesIn G x2 v484 v485 M481 (fun v488 M486 => oIs M486 x2 3 (P_X4_thrown G x2 M486 (fun v491 M489 => oIf (v491 = v483) (oIf (v483 = 0) (oLald M489 x3 (0 : Int32) (fun v492 => oIf ((lg_cmp v492 (v488.toInt64)) = 0) (B_L_law_2582 G rec23 Q x0 x1 x2 x3 x4 M489 (bq - c482)) (False))) (B_L_law_2582 G rec23 Q x0 x1 x2 x3 x4 M489 (bq - c482))) (False))))))))))) (oIf ((v2 &&& (63 : Int32)) = (42 : Int32)) (oIald .int M x0 (x4 + (1 : Int32)) (fun v493 => oIald .int M x0 (x4 + (2 : Int32)) (fun v494 => ∃ c496, c496 ≤ bq ∧ P_X0_bestInspection G x1 v493 v494 x3 c496 M (fun v497 M495 => oIald .int M495 x0 (x4 + (1 : Int32)) (fun v498 => oIald .int M495 x0 (x4 + (2 : Int32)) (fun v499 => oIs M495 x2 3 (P_X4_bestInspection G x2 v498 v499 M495 (fun v502 M500 => oIs M500 x2 3 (P_X4_thrown G x2 M500 (fun v505 M503 => oIf (v505 = v497) (oIf (v497 = 0) (oLald M503 x3 (0 : Int32) (fun v506 => oIf ((lg_cmp v506 (v502.toInt64)) = 0) (B_L_law_2650 G rec23 Q x0 x1 x2 x3 x4 M503 (bq - c496)) (False))) (B_L_law_2650 G rec23 Q x0 x1 x2 x3 x4 M503 (bq - c496))) (False))))))))))) (oIf ((v2 &&& (63 : Int32)) = (43 : Int32)) (oIald .int M x0 (x4 + (1 : Int32)) (fun v507 => ∃ c509, c509 ≤ bq ∧ P_X0_enoughLimit G x1 v507 x3 c509 M (fun v510 M508 => oIald .int M508 x0 (x4 + (1 : Int32)) (fun v511 => oIs M508 x2 3 (P_X4_enoughLimit G x2 v511 M508 (fun v514 M512 => oIs M512 x2 3 (P_X4_thrown G x2 M512 (fun v517 M515 => oIf (v517 = v510) (oIf (v510 = 0) (oLald M515 x3 (0 : Int32) (fun v518 => oIf ((lg_cmp v518 (v514.toInt64)) = 0) (B_L_law_2706 G rec23 Q x0 x1 x2 x3 x4 M515 (bq - c509)) (False))) (B_L_law_2706 G rec23 Q x0 x1 x2 x3 x4 M515 (bq - c509))) (False))))))))) (oIf ((v2 &&& (63 : Int32)) = (44 : Int32)) (oIald .int M x0 (x4 + (1 : Int32)) (fun v519 => ∃ c521, c521 ≤ bq ∧ P_X0_printZone G x1 v519 x3 c521 M (fun v522 M520 => oIald .int M520 x0 (x4 + (1 : Int32)) (fun v523 => oIs M520 x2 3 (P_X4_printZone G x2 v523 M520 (fun v526 M524 => oIs M524 x2 3 (P_X4_thrown G x2 M524 (fun v529 M527 => oIf (v529 = v522) (oIf (v522 = 0) (oLald M527 x3 (0 : Int32) (fun v530 => oIf ((lg_cmp v530 (v526.toInt64)) = 0) (B_L_law_2762 G rec23 Q x0 x1 x2 x3 x4 M527 (bq - c521)) (False))) (B_L_law_2762 G rec23 Q x0 x1 x2 x3 x4 M527 (bq - c521))) (False))))))))) (oIf ((v2 &&& (63 : Int32)) = (45 : Int32)) (oIald .int M x0 (x4 + (1 : Int32)) (fun v531 => oIs M x1 0 (P_X1_outputByte G x1 v531 M (fun v534 M532 => oIald .int M532 x0 (x4 + (1 : Int32)) (fun v535 => oIs M532 x2 3 (P_X4_outputByte G x2 v535 M532 (fun v538 M536 => oIf (v534 = v538) (B_L_law_2847 G rec23 Q x0 x1 x2 x3 x4 M536 bq) (False)))))))) (oIf ((v2 &&& (63 : Int32)) = (46 : Int32)) (oIs M x1 0 (∃ c540, c540 ≤ bq ∧ P_X1_saveState G x1 c540 M (fun v541 M539 => oIs M539 x2 3 (P_X4_saveState G x2 M539 (fun v544 M542 => oIf (v541 = v544) (B_L_law_2847 G rec23 Q x0 x1 x2 x3 x4 M542 (bq - c540)) (False)))))) (oIf ((v2 &&& (63 : Int32)) = (47 : Int32)) (∃ c546, c546 ≤ bq ∧ P_X0_restoreState G x1 x3 c546 M (fun v547 M545 => oIs M545 x2 3 (P_X4_restoreState G x2 M545 (fun v550 M548 => oIs M548 x2 3 (P_X4_thrown G x2 M548 (fun v553 M551 => oIf (v553 = v547) (oIf (v547 = 0) (oLald M551 x3 (0 : Int32) (fun v554 => oIf ((lg_cmp v554 (v550.toInt64)) = 0) (B_L_law_2844 G rec23 Q x0 x1 x2 x3 x4 M551 (bq - c546)) (False))) (B_L_law_2844 G rec23 Q x0 x1 x2 x3 x4 M551 (bq - c546))) (False))))))) (B_L_law_2847 G rec23 Q x0 x1 x2 x3 x4 M bq)))))))))))))))))))))))))))))))))))))))))))))))))))
def L_L_law_23 (G : wG) (Q : Bool → wM → Prop) : Nat → Nat → Nat → Nat → Nat → Int32 → wM → Nat → Prop
  | 0 => fun _ _ _ _ _ _ _ => False
  | n + 1 => B_L_law_23 G (L_L_law_23 G Q n) Q
def P_L_law (G : wG) (p1 : Nat) (b : Nat) (M : wM) (Q : Bool → wM → Prop) : Prop :=
  oNew G M b 0 [.null, .null, .null, .null, .int 0, .int 0, .int 0, .null] (fun a1 M2 b3 => ∃ c5, c5 ≤ b3 ∧ P_X1_init G a1 c5 M2 (fun M4 => oNew G M4 (b3 - c5) 3 [.int 0, .null, .null, .null, .null, .null, .null, .null, .int 0, .int 0, .null, .null, .null, .null, .int 0, .int 0, .int 0, .int 0, .int 0, .int 0, .int 0, .int 0, .int 0, .null, .null, .null, .null, .int 0] (fun a6 M7 b8 => ∃ c10, c10 ≤ b8 ∧ P_X4_init G a6 c10 M7 (fun M9 => oNewa G M9 (b8 - c10) .long (.inr (.inl (fun _ => 0))) (1 : Int32) (fun a11 M12 b13 => ∃ n, L_L_law_23 G Q n p1 a1 a6 a11 (0 : Int32) M12 b13)))))
set_option maxHeartbeats 8000000 in
set_option maxRecDepth 100000 in
theorem P_L_law_ok {l : Launch} (hl0 : l.stackTraces = false) {G : wG} {p1 : Nat} {b : Nat} {Q : Bool → wM → Prop} {M : wM} {p : Program} {e : Env} {s : State} {m : MethodId} {below : List Frame} {meth : Method} {c : Code} (hx : p.tables.exec = Jvm.exec) (hb : c.code = cL_law) (hr : meth.sig.returnType = ret) (hml : c.maxLocals = 9) (hown : s.vm.findClass RX0 = some m.cls) (hts : ∀ w ∈ lw_all, w.before #[Value.ref p1] s = true) (hlk : meth.locks = false) (hzz : s.heap.size ≤ wz G) (hC : wC G s) (hM : wR G M s.heap) (hB : 0 + b ≤ room_1.cells ∧ 0 + b ≤ room_1.slots) (hp : P_L_law G p1 b M Q) : W p l e room_1 s m #[Value.ref p1] below meth c s.heap [] 0 0 (lw_Z below #[Value.ref p1] s) (entryFrame m ([Value.ref p1] : List Value).toArray 9) := by
  have X : CallFix p m c cL_law 9 s ([.ref p1] : List Value).toArray lw_all RX0 := ⟨hx, hb, hml, hown, hts⟩
  have hS : va_S (wA G) s.heap s.heap [] := va_S.rf
  have hl := lv_entry ([.ref p1]) (n := 9) (Nat.le_of_ble_eq_true rfl)
  rw [lg_entry_eq]
  generalize (lg_sl ([.ref p1]) ++ List.replicate (9 - (lg_sl ([.ref p1])).length) Slot.unset).toArray = ls at hl ⊢
  have hl : lv_has ls 9 [(0, .ref p1)] := hl
  have hB2847 : ∀ (rec23 : Nat → Nat → Nat → Nat → Int32 → wM → Nat → Prop) (hrec23 : ∀ (x0 : Nat) (x1 : Nat) (x2 : Nat) (x3 : Nat) (x4 : Int32) (M : wM) (bq : Nat) (H : Heap) (locs : List Loc) (ls : Array Slot) (cells slots : Nat), rec23 x0 x1 x2 x3 x4 M bq → wR G M H → va_S (wA G) s.heap H locs → (cells + bq ≤ (room_1).cells ∧ slots + bq ≤ (room_1).slots) → lv_has ls 9 [(0, .ref x0), (1, .ref x1), (2, .ref x2), (3, .ref x3), (4, .int x4)] → W p l e room_1 s m ([.ref p1] : List Value).toArray below meth c H locs cells slots (lw_Z below ([.ref p1] : List Value).toArray s) (F0 m 23 ls [])), ∀ (x0 : Nat) (x1 : Nat) (x2 : Nat) (x3 : Nat) (x4 : Int32) (M : wM) (bq : Nat) (H : Heap) (locs : List Loc) (ls : Array Slot) (cells slots : Nat), B_L_law_2847 G rec23 Q x0 x1 x2 x3 x4 M bq → wR G M H → va_S (wA G) s.heap H locs → (cells + bq ≤ (room_1).cells ∧ slots + bq ≤ (room_1).slots) → lv_has ls 9 [(0, .ref x0), (1, .ref x1), (2, .ref x2), (3, .ref x3), (4, .int x4)] → W p l e room_1 s m ([.ref p1] : List Value).toArray below meth c H locs cells slots (lw_Z below ([.ref p1] : List Value).toArray s) (F0 m 2847 ls []) := by
    intro rec23 hrec23 x0 x1 x2 x3 x4 M bq H locs ls cells slots hp hM hS hB hl
    refine lv_iinc (v := (x4 + 6)) (lv' := [(4, .int (x4 + 6)), (0, .ref x0), (1, .ref x1), (2, .ref x2), (3, .ref x3)]) hx hb dL_law_2847 hl (k := 4) rfl rfl (by decide) rfl (fun ls hl => ?_)
    refine lv_goto (tgt := 23) hx hb dL_law_2850 (by decide) ?_
    exact hrec23 _ _ _ _ _ _ _ _ _ _ _ _ hp hM hS hB (lv_sub hl [1, 2, 3, 4, 0] rfl)
  have hB475 : ∀ (rec23 : Nat → Nat → Nat → Nat → Int32 → wM → Nat → Prop) (hrec23 : ∀ (x0 : Nat) (x1 : Nat) (x2 : Nat) (x3 : Nat) (x4 : Int32) (M : wM) (bq : Nat) (H : Heap) (locs : List Loc) (ls : Array Slot) (cells slots : Nat), rec23 x0 x1 x2 x3 x4 M bq → wR G M H → va_S (wA G) s.heap H locs → (cells + bq ≤ (room_1).cells ∧ slots + bq ≤ (room_1).slots) → lv_has ls 9 [(0, .ref x0), (1, .ref x1), (2, .ref x2), (3, .ref x3), (4, .int x4)] → W p l e room_1 s m ([.ref p1] : List Value).toArray below meth c H locs cells slots (lw_Z below ([.ref p1] : List Value).toArray s) (F0 m 23 ls [])), ∀ (x0 : Nat) (x1 : Nat) (x2 : Nat) (x3 : Nat) (x4 : Int32) (M : wM) (bq : Nat) (H : Heap) (locs : List Loc) (ls : Array Slot) (cells slots : Nat), B_L_law_475 G rec23 Q x0 x1 x2 x3 x4 M bq → wR G M H → va_S (wA G) s.heap H locs → (cells + bq ≤ (room_1).cells ∧ slots + bq ≤ (room_1).slots) → lv_has ls 9 [(0, .ref x0), (1, .ref x1), (2, .ref x2), (3, .ref x3), (4, .int x4)] → W p l e room_1 s m ([.ref p1] : List Value).toArray below meth c H locs cells slots (lw_Z below ([.ref p1] : List Value).toArray s) (F0 m 475 ls []) := by
    intro rec23 hrec23 x0 x1 x2 x3 x4 M bq H locs ls cells slots hp hM hS hB hl
    refine lv_goto (tgt := 2847) hx hb dL_law_475 (by decide) ?_
    exact hB2847 rec23 hrec23 _ _ _ _ _ _ _ _ _ _ _ _ hp hM hS hB (lv_sub hl [0, 1, 2, 3, 4] rfl)
  have hB543 : ∀ (rec23 : Nat → Nat → Nat → Nat → Int32 → wM → Nat → Prop) (hrec23 : ∀ (x0 : Nat) (x1 : Nat) (x2 : Nat) (x3 : Nat) (x4 : Int32) (M : wM) (bq : Nat) (H : Heap) (locs : List Loc) (ls : Array Slot) (cells slots : Nat), rec23 x0 x1 x2 x3 x4 M bq → wR G M H → va_S (wA G) s.heap H locs → (cells + bq ≤ (room_1).cells ∧ slots + bq ≤ (room_1).slots) → lv_has ls 9 [(0, .ref x0), (1, .ref x1), (2, .ref x2), (3, .ref x3), (4, .int x4)] → W p l e room_1 s m ([.ref p1] : List Value).toArray below meth c H locs cells slots (lw_Z below ([.ref p1] : List Value).toArray s) (F0 m 23 ls [])), ∀ (x0 : Nat) (x1 : Nat) (x2 : Nat) (x3 : Nat) (x4 : Int32) (M : wM) (bq : Nat) (H : Heap) (locs : List Loc) (ls : Array Slot) (cells slots : Nat), B_L_law_543 G rec23 Q x0 x1 x2 x3 x4 M bq → wR G M H → va_S (wA G) s.heap H locs → (cells + bq ≤ (room_1).cells ∧ slots + bq ≤ (room_1).slots) → lv_has ls 9 [(0, .ref x0), (1, .ref x1), (2, .ref x2), (3, .ref x3), (4, .int x4)] → W p l e room_1 s m ([.ref p1] : List Value).toArray below meth c H locs cells slots (lw_Z below ([.ref p1] : List Value).toArray s) (F0 m 543 ls []) := by
    intro rec23 hrec23 x0 x1 x2 x3 x4 M bq H locs ls cells slots hp hM hS hB hl
    refine lv_goto (tgt := 2847) hx hb dL_law_543 (by decide) ?_
    exact hB2847 rec23 hrec23 _ _ _ _ _ _ _ _ _ _ _ _ hp hM hS hB (lv_sub hl [0, 1, 2, 3, 4] rfl)
  have hB611 : ∀ (rec23 : Nat → Nat → Nat → Nat → Int32 → wM → Nat → Prop) (hrec23 : ∀ (x0 : Nat) (x1 : Nat) (x2 : Nat) (x3 : Nat) (x4 : Int32) (M : wM) (bq : Nat) (H : Heap) (locs : List Loc) (ls : Array Slot) (cells slots : Nat), rec23 x0 x1 x2 x3 x4 M bq → wR G M H → va_S (wA G) s.heap H locs → (cells + bq ≤ (room_1).cells ∧ slots + bq ≤ (room_1).slots) → lv_has ls 9 [(0, .ref x0), (1, .ref x1), (2, .ref x2), (3, .ref x3), (4, .int x4)] → W p l e room_1 s m ([.ref p1] : List Value).toArray below meth c H locs cells slots (lw_Z below ([.ref p1] : List Value).toArray s) (F0 m 23 ls [])), ∀ (x0 : Nat) (x1 : Nat) (x2 : Nat) (x3 : Nat) (x4 : Int32) (M : wM) (bq : Nat) (H : Heap) (locs : List Loc) (ls : Array Slot) (cells slots : Nat), B_L_law_611 G rec23 Q x0 x1 x2 x3 x4 M bq → wR G M H → va_S (wA G) s.heap H locs → (cells + bq ≤ (room_1).cells ∧ slots + bq ≤ (room_1).slots) → lv_has ls 9 [(0, .ref x0), (1, .ref x1), (2, .ref x2), (3, .ref x3), (4, .int x4)] → W p l e room_1 s m ([.ref p1] : List Value).toArray below meth c H locs cells slots (lw_Z below ([.ref p1] : List Value).toArray s) (F0 m 611 ls []) := by
    intro rec23 hrec23 x0 x1 x2 x3 x4 M bq H locs ls cells slots hp hM hS hB hl
    refine lv_goto (tgt := 2847) hx hb dL_law_611 (by decide) ?_
    exact hB2847 rec23 hrec23 _ _ _ _ _ _ _ _ _ _ _ _ hp hM hS hB (lv_sub hl [0, 1, 2, 3, 4] rfl)
  have hB667 : ∀ (rec23 : Nat → Nat → Nat → Nat → Int32 → wM → Nat → Prop) (hrec23 : ∀ (x0 : Nat) (x1 : Nat) (x2 : Nat) (x3 : Nat) (x4 : Int32) (M : wM) (bq : Nat) (H : Heap) (locs : List Loc) (ls : Array Slot) (cells slots : Nat), rec23 x0 x1 x2 x3 x4 M bq → wR G M H → va_S (wA G) s.heap H locs → (cells + bq ≤ (room_1).cells ∧ slots + bq ≤ (room_1).slots) → lv_has ls 9 [(0, .ref x0), (1, .ref x1), (2, .ref x2), (3, .ref x3), (4, .int x4)] → W p l e room_1 s m ([.ref p1] : List Value).toArray below meth c H locs cells slots (lw_Z below ([.ref p1] : List Value).toArray s) (F0 m 23 ls [])), ∀ (x0 : Nat) (x1 : Nat) (x2 : Nat) (x3 : Nat) (x4 : Int32) (M : wM) (bq : Nat) (H : Heap) (locs : List Loc) (ls : Array Slot) (cells slots : Nat), B_L_law_667 G rec23 Q x0 x1 x2 x3 x4 M bq → wR G M H → va_S (wA G) s.heap H locs → (cells + bq ≤ (room_1).cells ∧ slots + bq ≤ (room_1).slots) → lv_has ls 9 [(0, .ref x0), (1, .ref x1), (2, .ref x2), (3, .ref x3), (4, .int x4)] → W p l e room_1 s m ([.ref p1] : List Value).toArray below meth c H locs cells slots (lw_Z below ([.ref p1] : List Value).toArray s) (F0 m 667 ls []) := by
    intro rec23 hrec23 x0 x1 x2 x3 x4 M bq H locs ls cells slots hp hM hS hB hl
    refine lv_goto (tgt := 2847) hx hb dL_law_667 (by decide) ?_
    exact hB2847 rec23 hrec23 _ _ _ _ _ _ _ _ _ _ _ _ hp hM hS hB (lv_sub hl [0, 1, 2, 3, 4] rfl)
  have hB723 : ∀ (rec23 : Nat → Nat → Nat → Nat → Int32 → wM → Nat → Prop) (hrec23 : ∀ (x0 : Nat) (x1 : Nat) (x2 : Nat) (x3 : Nat) (x4 : Int32) (M : wM) (bq : Nat) (H : Heap) (locs : List Loc) (ls : Array Slot) (cells slots : Nat), rec23 x0 x1 x2 x3 x4 M bq → wR G M H → va_S (wA G) s.heap H locs → (cells + bq ≤ (room_1).cells ∧ slots + bq ≤ (room_1).slots) → lv_has ls 9 [(0, .ref x0), (1, .ref x1), (2, .ref x2), (3, .ref x3), (4, .int x4)] → W p l e room_1 s m ([.ref p1] : List Value).toArray below meth c H locs cells slots (lw_Z below ([.ref p1] : List Value).toArray s) (F0 m 23 ls [])), ∀ (x0 : Nat) (x1 : Nat) (x2 : Nat) (x3 : Nat) (x4 : Int32) (M : wM) (bq : Nat) (H : Heap) (locs : List Loc) (ls : Array Slot) (cells slots : Nat), B_L_law_723 G rec23 Q x0 x1 x2 x3 x4 M bq → wR G M H → va_S (wA G) s.heap H locs → (cells + bq ≤ (room_1).cells ∧ slots + bq ≤ (room_1).slots) → lv_has ls 9 [(0, .ref x0), (1, .ref x1), (2, .ref x2), (3, .ref x3), (4, .int x4)] → W p l e room_1 s m ([.ref p1] : List Value).toArray below meth c H locs cells slots (lw_Z below ([.ref p1] : List Value).toArray s) (F0 m 723 ls []) := by
    intro rec23 hrec23 x0 x1 x2 x3 x4 M bq H locs ls cells slots hp hM hS hB hl
    refine lv_goto (tgt := 2847) hx hb dL_law_723 (by decide) ?_
    exact hB2847 rec23 hrec23 _ _ _ _ _ _ _ _ _ _ _ _ hp hM hS hB (lv_sub hl [0, 1, 2, 3, 4] rfl)
  have hB791 : ∀ (rec23 : Nat → Nat → Nat → Nat → Int32 → wM → Nat → Prop) (hrec23 : ∀ (x0 : Nat) (x1 : Nat) (x2 : Nat) (x3 : Nat) (x4 : Int32) (M : wM) (bq : Nat) (H : Heap) (locs : List Loc) (ls : Array Slot) (cells slots : Nat), rec23 x0 x1 x2 x3 x4 M bq → wR G M H → va_S (wA G) s.heap H locs → (cells + bq ≤ (room_1).cells ∧ slots + bq ≤ (room_1).slots) → lv_has ls 9 [(0, .ref x0), (1, .ref x1), (2, .ref x2), (3, .ref x3), (4, .int x4)] → W p l e room_1 s m ([.ref p1] : List Value).toArray below meth c H locs cells slots (lw_Z below ([.ref p1] : List Value).toArray s) (F0 m 23 ls [])), ∀ (x0 : Nat) (x1 : Nat) (x2 : Nat) (x3 : Nat) (x4 : Int32) (M : wM) (bq : Nat) (H : Heap) (locs : List Loc) (ls : Array Slot) (cells slots : Nat), B_L_law_791 G rec23 Q x0 x1 x2 x3 x4 M bq → wR G M H → va_S (wA G) s.heap H locs → (cells + bq ≤ (room_1).cells ∧ slots + bq ≤ (room_1).slots) → lv_has ls 9 [(0, .ref x0), (1, .ref x1), (2, .ref x2), (3, .ref x3), (4, .int x4)] → W p l e room_1 s m ([.ref p1] : List Value).toArray below meth c H locs cells slots (lw_Z below ([.ref p1] : List Value).toArray s) (F0 m 791 ls []) := by
    intro rec23 hrec23 x0 x1 x2 x3 x4 M bq H locs ls cells slots hp hM hS hB hl
    refine lv_goto (tgt := 2847) hx hb dL_law_791 (by decide) ?_
    exact hB2847 rec23 hrec23 _ _ _ _ _ _ _ _ _ _ _ _ hp hM hS hB (lv_sub hl [0, 1, 2, 3, 4] rfl)
  have hB859 : ∀ (rec23 : Nat → Nat → Nat → Nat → Int32 → wM → Nat → Prop) (hrec23 : ∀ (x0 : Nat) (x1 : Nat) (x2 : Nat) (x3 : Nat) (x4 : Int32) (M : wM) (bq : Nat) (H : Heap) (locs : List Loc) (ls : Array Slot) (cells slots : Nat), rec23 x0 x1 x2 x3 x4 M bq → wR G M H → va_S (wA G) s.heap H locs → (cells + bq ≤ (room_1).cells ∧ slots + bq ≤ (room_1).slots) → lv_has ls 9 [(0, .ref x0), (1, .ref x1), (2, .ref x2), (3, .ref x3), (4, .int x4)] → W p l e room_1 s m ([.ref p1] : List Value).toArray below meth c H locs cells slots (lw_Z below ([.ref p1] : List Value).toArray s) (F0 m 23 ls [])), ∀ (x0 : Nat) (x1 : Nat) (x2 : Nat) (x3 : Nat) (x4 : Int32) (M : wM) (bq : Nat) (H : Heap) (locs : List Loc) (ls : Array Slot) (cells slots : Nat), B_L_law_859 G rec23 Q x0 x1 x2 x3 x4 M bq → wR G M H → va_S (wA G) s.heap H locs → (cells + bq ≤ (room_1).cells ∧ slots + bq ≤ (room_1).slots) → lv_has ls 9 [(0, .ref x0), (1, .ref x1), (2, .ref x2), (3, .ref x3), (4, .int x4)] → W p l e room_1 s m ([.ref p1] : List Value).toArray below meth c H locs cells slots (lw_Z below ([.ref p1] : List Value).toArray s) (F0 m 859 ls []) := by
    intro rec23 hrec23 x0 x1 x2 x3 x4 M bq H locs ls cells slots hp hM hS hB hl
    refine lv_goto (tgt := 2847) hx hb dL_law_859 (by decide) ?_
    exact hB2847 rec23 hrec23 _ _ _ _ _ _ _ _ _ _ _ _ hp hM hS hB (lv_sub hl [0, 1, 2, 3, 4] rfl)
  have hB915 : ∀ (rec23 : Nat → Nat → Nat → Nat → Int32 → wM → Nat → Prop) (hrec23 : ∀ (x0 : Nat) (x1 : Nat) (x2 : Nat) (x3 : Nat) (x4 : Int32) (M : wM) (bq : Nat) (H : Heap) (locs : List Loc) (ls : Array Slot) (cells slots : Nat), rec23 x0 x1 x2 x3 x4 M bq → wR G M H → va_S (wA G) s.heap H locs → (cells + bq ≤ (room_1).cells ∧ slots + bq ≤ (room_1).slots) → lv_has ls 9 [(0, .ref x0), (1, .ref x1), (2, .ref x2), (3, .ref x3), (4, .int x4)] → W p l e room_1 s m ([.ref p1] : List Value).toArray below meth c H locs cells slots (lw_Z below ([.ref p1] : List Value).toArray s) (F0 m 23 ls [])), ∀ (x0 : Nat) (x1 : Nat) (x2 : Nat) (x3 : Nat) (x4 : Int32) (M : wM) (bq : Nat) (H : Heap) (locs : List Loc) (ls : Array Slot) (cells slots : Nat), B_L_law_915 G rec23 Q x0 x1 x2 x3 x4 M bq → wR G M H → va_S (wA G) s.heap H locs → (cells + bq ≤ (room_1).cells ∧ slots + bq ≤ (room_1).slots) → lv_has ls 9 [(0, .ref x0), (1, .ref x1), (2, .ref x2), (3, .ref x3), (4, .int x4)] → W p l e room_1 s m ([.ref p1] : List Value).toArray below meth c H locs cells slots (lw_Z below ([.ref p1] : List Value).toArray s) (F0 m 915 ls []) := by
    intro rec23 hrec23 x0 x1 x2 x3 x4 M bq H locs ls cells slots hp hM hS hB hl
    refine lv_goto (tgt := 2847) hx hb dL_law_915 (by decide) ?_
    exact hB2847 rec23 hrec23 _ _ _ _ _ _ _ _ _ _ _ _ hp hM hS hB (lv_sub hl [0, 1, 2, 3, 4] rfl)
  have hB996 : ∀ (rec23 : Nat → Nat → Nat → Nat → Int32 → wM → Nat → Prop) (hrec23 : ∀ (x0 : Nat) (x1 : Nat) (x2 : Nat) (x3 : Nat) (x4 : Int32) (M : wM) (bq : Nat) (H : Heap) (locs : List Loc) (ls : Array Slot) (cells slots : Nat), rec23 x0 x1 x2 x3 x4 M bq → wR G M H → va_S (wA G) s.heap H locs → (cells + bq ≤ (room_1).cells ∧ slots + bq ≤ (room_1).slots) → lv_has ls 9 [(0, .ref x0), (1, .ref x1), (2, .ref x2), (3, .ref x3), (4, .int x4)] → W p l e room_1 s m ([.ref p1] : List Value).toArray below meth c H locs cells slots (lw_Z below ([.ref p1] : List Value).toArray s) (F0 m 23 ls [])), ∀ (x0 : Nat) (x1 : Nat) (x2 : Nat) (x3 : Nat) (x4 : Int32) (M : wM) (bq : Nat) (H : Heap) (locs : List Loc) (ls : Array Slot) (cells slots : Nat), B_L_law_996 G rec23 Q x0 x1 x2 x3 x4 M bq → wR G M H → va_S (wA G) s.heap H locs → (cells + bq ≤ (room_1).cells ∧ slots + bq ≤ (room_1).slots) → lv_has ls 9 [(0, .ref x0), (1, .ref x1), (2, .ref x2), (3, .ref x3), (4, .int x4)] → W p l e room_1 s m ([.ref p1] : List Value).toArray below meth c H locs cells slots (lw_Z below ([.ref p1] : List Value).toArray s) (F0 m 996 ls []) := by
    intro rec23 hrec23 x0 x1 x2 x3 x4 M bq H locs ls cells slots hp hM hS hB hl
    refine lv_goto (tgt := 2847) hx hb dL_law_996 (by decide) ?_
    exact hB2847 rec23 hrec23 _ _ _ _ _ _ _ _ _ _ _ _ hp hM hS hB (lv_sub hl [0, 1, 2, 3, 4] rfl)
  have hB1064 : ∀ (rec23 : Nat → Nat → Nat → Nat → Int32 → wM → Nat → Prop) (hrec23 : ∀ (x0 : Nat) (x1 : Nat) (x2 : Nat) (x3 : Nat) (x4 : Int32) (M : wM) (bq : Nat) (H : Heap) (locs : List Loc) (ls : Array Slot) (cells slots : Nat), rec23 x0 x1 x2 x3 x4 M bq → wR G M H → va_S (wA G) s.heap H locs → (cells + bq ≤ (room_1).cells ∧ slots + bq ≤ (room_1).slots) → lv_has ls 9 [(0, .ref x0), (1, .ref x1), (2, .ref x2), (3, .ref x3), (4, .int x4)] → W p l e room_1 s m ([.ref p1] : List Value).toArray below meth c H locs cells slots (lw_Z below ([.ref p1] : List Value).toArray s) (F0 m 23 ls [])), ∀ (x0 : Nat) (x1 : Nat) (x2 : Nat) (x3 : Nat) (x4 : Int32) (M : wM) (bq : Nat) (H : Heap) (locs : List Loc) (ls : Array Slot) (cells slots : Nat), B_L_law_1064 G rec23 Q x0 x1 x2 x3 x4 M bq → wR G M H → va_S (wA G) s.heap H locs → (cells + bq ≤ (room_1).cells ∧ slots + bq ≤ (room_1).slots) → lv_has ls 9 [(0, .ref x0), (1, .ref x1), (2, .ref x2), (3, .ref x3), (4, .int x4)] → W p l e room_1 s m ([.ref p1] : List Value).toArray below meth c H locs cells slots (lw_Z below ([.ref p1] : List Value).toArray s) (F0 m 1064 ls []) := by
    intro rec23 hrec23 x0 x1 x2 x3 x4 M bq H locs ls cells slots hp hM hS hB hl
    refine lv_goto (tgt := 2847) hx hb dL_law_1064 (by decide) ?_
    exact hB2847 rec23 hrec23 _ _ _ _ _ _ _ _ _ _ _ _ hp hM hS hB (lv_sub hl [0, 1, 2, 3, 4] rfl)
  have hB1132 : ∀ (rec23 : Nat → Nat → Nat → Nat → Int32 → wM → Nat → Prop) (hrec23 : ∀ (x0 : Nat) (x1 : Nat) (x2 : Nat) (x3 : Nat) (x4 : Int32) (M : wM) (bq : Nat) (H : Heap) (locs : List Loc) (ls : Array Slot) (cells slots : Nat), rec23 x0 x1 x2 x3 x4 M bq → wR G M H → va_S (wA G) s.heap H locs → (cells + bq ≤ (room_1).cells ∧ slots + bq ≤ (room_1).slots) → lv_has ls 9 [(0, .ref x0), (1, .ref x1), (2, .ref x2), (3, .ref x3), (4, .int x4)] → W p l e room_1 s m ([.ref p1] : List Value).toArray below meth c H locs cells slots (lw_Z below ([.ref p1] : List Value).toArray s) (F0 m 23 ls [])), ∀ (x0 : Nat) (x1 : Nat) (x2 : Nat) (x3 : Nat) (x4 : Int32) (M : wM) (bq : Nat) (H : Heap) (locs : List Loc) (ls : Array Slot) (cells slots : Nat), B_L_law_1132 G rec23 Q x0 x1 x2 x3 x4 M bq → wR G M H → va_S (wA G) s.heap H locs → (cells + bq ≤ (room_1).cells ∧ slots + bq ≤ (room_1).slots) → lv_has ls 9 [(0, .ref x0), (1, .ref x1), (2, .ref x2), (3, .ref x3), (4, .int x4)] → W p l e room_1 s m ([.ref p1] : List Value).toArray below meth c H locs cells slots (lw_Z below ([.ref p1] : List Value).toArray s) (F0 m 1132 ls []) := by
    intro rec23 hrec23 x0 x1 x2 x3 x4 M bq H locs ls cells slots hp hM hS hB hl
    refine lv_goto (tgt := 2847) hx hb dL_law_1132 (by decide) ?_
    exact hB2847 rec23 hrec23 _ _ _ _ _ _ _ _ _ _ _ _ hp hM hS hB (lv_sub hl [0, 1, 2, 3, 4] rfl)
  have hB1225 : ∀ (rec23 : Nat → Nat → Nat → Nat → Int32 → wM → Nat → Prop) (hrec23 : ∀ (x0 : Nat) (x1 : Nat) (x2 : Nat) (x3 : Nat) (x4 : Int32) (M : wM) (bq : Nat) (H : Heap) (locs : List Loc) (ls : Array Slot) (cells slots : Nat), rec23 x0 x1 x2 x3 x4 M bq → wR G M H → va_S (wA G) s.heap H locs → (cells + bq ≤ (room_1).cells ∧ slots + bq ≤ (room_1).slots) → lv_has ls 9 [(0, .ref x0), (1, .ref x1), (2, .ref x2), (3, .ref x3), (4, .int x4)] → W p l e room_1 s m ([.ref p1] : List Value).toArray below meth c H locs cells slots (lw_Z below ([.ref p1] : List Value).toArray s) (F0 m 23 ls [])), ∀ (x0 : Nat) (x1 : Nat) (x2 : Nat) (x3 : Nat) (x4 : Int32) (M : wM) (bq : Nat) (H : Heap) (locs : List Loc) (ls : Array Slot) (cells slots : Nat), B_L_law_1225 G rec23 Q x0 x1 x2 x3 x4 M bq → wR G M H → va_S (wA G) s.heap H locs → (cells + bq ≤ (room_1).cells ∧ slots + bq ≤ (room_1).slots) → lv_has ls 9 [(0, .ref x0), (1, .ref x1), (2, .ref x2), (3, .ref x3), (4, .int x4)] → W p l e room_1 s m ([.ref p1] : List Value).toArray below meth c H locs cells slots (lw_Z below ([.ref p1] : List Value).toArray s) (F0 m 1225 ls []) := by
    intro rec23 hrec23 x0 x1 x2 x3 x4 M bq H locs ls cells slots hp hM hS hB hl
    refine lv_goto (tgt := 2847) hx hb dL_law_1225 (by decide) ?_
    exact hB2847 rec23 hrec23 _ _ _ _ _ _ _ _ _ _ _ _ hp hM hS hB (lv_sub hl [0, 1, 2, 3, 4] rfl)
  have hB1281 : ∀ (rec23 : Nat → Nat → Nat → Nat → Int32 → wM → Nat → Prop) (hrec23 : ∀ (x0 : Nat) (x1 : Nat) (x2 : Nat) (x3 : Nat) (x4 : Int32) (M : wM) (bq : Nat) (H : Heap) (locs : List Loc) (ls : Array Slot) (cells slots : Nat), rec23 x0 x1 x2 x3 x4 M bq → wR G M H → va_S (wA G) s.heap H locs → (cells + bq ≤ (room_1).cells ∧ slots + bq ≤ (room_1).slots) → lv_has ls 9 [(0, .ref x0), (1, .ref x1), (2, .ref x2), (3, .ref x3), (4, .int x4)] → W p l e room_1 s m ([.ref p1] : List Value).toArray below meth c H locs cells slots (lw_Z below ([.ref p1] : List Value).toArray s) (F0 m 23 ls [])), ∀ (x0 : Nat) (x1 : Nat) (x2 : Nat) (x3 : Nat) (x4 : Int32) (M : wM) (bq : Nat) (H : Heap) (locs : List Loc) (ls : Array Slot) (cells slots : Nat), B_L_law_1281 G rec23 Q x0 x1 x2 x3 x4 M bq → wR G M H → va_S (wA G) s.heap H locs → (cells + bq ≤ (room_1).cells ∧ slots + bq ≤ (room_1).slots) → lv_has ls 9 [(0, .ref x0), (1, .ref x1), (2, .ref x2), (3, .ref x3), (4, .int x4)] → W p l e room_1 s m ([.ref p1] : List Value).toArray below meth c H locs cells slots (lw_Z below ([.ref p1] : List Value).toArray s) (F0 m 1281 ls []) := by
    intro rec23 hrec23 x0 x1 x2 x3 x4 M bq H locs ls cells slots hp hM hS hB hl
    refine lv_goto (tgt := 2847) hx hb dL_law_1281 (by decide) ?_
    exact hB2847 rec23 hrec23 _ _ _ _ _ _ _ _ _ _ _ _ hp hM hS hB (lv_sub hl [0, 1, 2, 3, 4] rfl)
  have hB1349 : ∀ (rec23 : Nat → Nat → Nat → Nat → Int32 → wM → Nat → Prop) (hrec23 : ∀ (x0 : Nat) (x1 : Nat) (x2 : Nat) (x3 : Nat) (x4 : Int32) (M : wM) (bq : Nat) (H : Heap) (locs : List Loc) (ls : Array Slot) (cells slots : Nat), rec23 x0 x1 x2 x3 x4 M bq → wR G M H → va_S (wA G) s.heap H locs → (cells + bq ≤ (room_1).cells ∧ slots + bq ≤ (room_1).slots) → lv_has ls 9 [(0, .ref x0), (1, .ref x1), (2, .ref x2), (3, .ref x3), (4, .int x4)] → W p l e room_1 s m ([.ref p1] : List Value).toArray below meth c H locs cells slots (lw_Z below ([.ref p1] : List Value).toArray s) (F0 m 23 ls [])), ∀ (x0 : Nat) (x1 : Nat) (x2 : Nat) (x3 : Nat) (x4 : Int32) (M : wM) (bq : Nat) (H : Heap) (locs : List Loc) (ls : Array Slot) (cells slots : Nat), B_L_law_1349 G rec23 Q x0 x1 x2 x3 x4 M bq → wR G M H → va_S (wA G) s.heap H locs → (cells + bq ≤ (room_1).cells ∧ slots + bq ≤ (room_1).slots) → lv_has ls 9 [(0, .ref x0), (1, .ref x1), (2, .ref x2), (3, .ref x3), (4, .int x4)] → W p l e room_1 s m ([.ref p1] : List Value).toArray below meth c H locs cells slots (lw_Z below ([.ref p1] : List Value).toArray s) (F0 m 1349 ls []) := by
    intro rec23 hrec23 x0 x1 x2 x3 x4 M bq H locs ls cells slots hp hM hS hB hl
    refine lv_goto (tgt := 2847) hx hb dL_law_1349 (by decide) ?_
    exact hB2847 rec23 hrec23 _ _ _ _ _ _ _ _ _ _ _ _ hp hM hS hB (lv_sub hl [0, 1, 2, 3, 4] rfl)
  have hB1405 : ∀ (rec23 : Nat → Nat → Nat → Nat → Int32 → wM → Nat → Prop) (hrec23 : ∀ (x0 : Nat) (x1 : Nat) (x2 : Nat) (x3 : Nat) (x4 : Int32) (M : wM) (bq : Nat) (H : Heap) (locs : List Loc) (ls : Array Slot) (cells slots : Nat), rec23 x0 x1 x2 x3 x4 M bq → wR G M H → va_S (wA G) s.heap H locs → (cells + bq ≤ (room_1).cells ∧ slots + bq ≤ (room_1).slots) → lv_has ls 9 [(0, .ref x0), (1, .ref x1), (2, .ref x2), (3, .ref x3), (4, .int x4)] → W p l e room_1 s m ([.ref p1] : List Value).toArray below meth c H locs cells slots (lw_Z below ([.ref p1] : List Value).toArray s) (F0 m 23 ls [])), ∀ (x0 : Nat) (x1 : Nat) (x2 : Nat) (x3 : Nat) (x4 : Int32) (M : wM) (bq : Nat) (H : Heap) (locs : List Loc) (ls : Array Slot) (cells slots : Nat), B_L_law_1405 G rec23 Q x0 x1 x2 x3 x4 M bq → wR G M H → va_S (wA G) s.heap H locs → (cells + bq ≤ (room_1).cells ∧ slots + bq ≤ (room_1).slots) → lv_has ls 9 [(0, .ref x0), (1, .ref x1), (2, .ref x2), (3, .ref x3), (4, .int x4)] → W p l e room_1 s m ([.ref p1] : List Value).toArray below meth c H locs cells slots (lw_Z below ([.ref p1] : List Value).toArray s) (F0 m 1405 ls []) := by
    intro rec23 hrec23 x0 x1 x2 x3 x4 M bq H locs ls cells slots hp hM hS hB hl
    refine lv_goto (tgt := 2847) hx hb dL_law_1405 (by decide) ?_
    exact hB2847 rec23 hrec23 _ _ _ _ _ _ _ _ _ _ _ _ hp hM hS hB (lv_sub hl [0, 1, 2, 3, 4] rfl)
  have hB1461 : ∀ (rec23 : Nat → Nat → Nat → Nat → Int32 → wM → Nat → Prop) (hrec23 : ∀ (x0 : Nat) (x1 : Nat) (x2 : Nat) (x3 : Nat) (x4 : Int32) (M : wM) (bq : Nat) (H : Heap) (locs : List Loc) (ls : Array Slot) (cells slots : Nat), rec23 x0 x1 x2 x3 x4 M bq → wR G M H → va_S (wA G) s.heap H locs → (cells + bq ≤ (room_1).cells ∧ slots + bq ≤ (room_1).slots) → lv_has ls 9 [(0, .ref x0), (1, .ref x1), (2, .ref x2), (3, .ref x3), (4, .int x4)] → W p l e room_1 s m ([.ref p1] : List Value).toArray below meth c H locs cells slots (lw_Z below ([.ref p1] : List Value).toArray s) (F0 m 23 ls [])), ∀ (x0 : Nat) (x1 : Nat) (x2 : Nat) (x3 : Nat) (x4 : Int32) (M : wM) (bq : Nat) (H : Heap) (locs : List Loc) (ls : Array Slot) (cells slots : Nat), B_L_law_1461 G rec23 Q x0 x1 x2 x3 x4 M bq → wR G M H → va_S (wA G) s.heap H locs → (cells + bq ≤ (room_1).cells ∧ slots + bq ≤ (room_1).slots) → lv_has ls 9 [(0, .ref x0), (1, .ref x1), (2, .ref x2), (3, .ref x3), (4, .int x4)] → W p l e room_1 s m ([.ref p1] : List Value).toArray below meth c H locs cells slots (lw_Z below ([.ref p1] : List Value).toArray s) (F0 m 1461 ls []) := by
    intro rec23 hrec23 x0 x1 x2 x3 x4 M bq H locs ls cells slots hp hM hS hB hl
    refine lv_goto (tgt := 2847) hx hb dL_law_1461 (by decide) ?_
    exact hB2847 rec23 hrec23 _ _ _ _ _ _ _ _ _ _ _ _ hp hM hS hB (lv_sub hl [0, 1, 2, 3, 4] rfl)
  have hB1504 : ∀ (rec23 : Nat → Nat → Nat → Nat → Int32 → wM → Nat → Prop) (hrec23 : ∀ (x0 : Nat) (x1 : Nat) (x2 : Nat) (x3 : Nat) (x4 : Int32) (M : wM) (bq : Nat) (H : Heap) (locs : List Loc) (ls : Array Slot) (cells slots : Nat), rec23 x0 x1 x2 x3 x4 M bq → wR G M H → va_S (wA G) s.heap H locs → (cells + bq ≤ (room_1).cells ∧ slots + bq ≤ (room_1).slots) → lv_has ls 9 [(0, .ref x0), (1, .ref x1), (2, .ref x2), (3, .ref x3), (4, .int x4)] → W p l e room_1 s m ([.ref p1] : List Value).toArray below meth c H locs cells slots (lw_Z below ([.ref p1] : List Value).toArray s) (F0 m 23 ls [])), ∀ (x0 : Nat) (x1 : Nat) (x2 : Nat) (x3 : Nat) (x4 : Int32) (M : wM) (bq : Nat) (H : Heap) (locs : List Loc) (ls : Array Slot) (cells slots : Nat), B_L_law_1504 G rec23 Q x0 x1 x2 x3 x4 M bq → wR G M H → va_S (wA G) s.heap H locs → (cells + bq ≤ (room_1).cells ∧ slots + bq ≤ (room_1).slots) → lv_has ls 9 [(0, .ref x0), (1, .ref x1), (2, .ref x2), (3, .ref x3), (4, .int x4)] → W p l e room_1 s m ([.ref p1] : List Value).toArray below meth c H locs cells slots (lw_Z below ([.ref p1] : List Value).toArray s) (F0 m 1504 ls []) := by
    intro rec23 hrec23 x0 x1 x2 x3 x4 M bq H locs ls cells slots hp hM hS hB hl
    refine lv_goto (tgt := 2847) hx hb dL_law_1504 (by decide) ?_
    exact hB2847 rec23 hrec23 _ _ _ _ _ _ _ _ _ _ _ _ hp hM hS hB (lv_sub hl [0, 1, 2, 3, 4] rfl)
  have hB1560 : ∀ (rec23 : Nat → Nat → Nat → Nat → Int32 → wM → Nat → Prop) (hrec23 : ∀ (x0 : Nat) (x1 : Nat) (x2 : Nat) (x3 : Nat) (x4 : Int32) (M : wM) (bq : Nat) (H : Heap) (locs : List Loc) (ls : Array Slot) (cells slots : Nat), rec23 x0 x1 x2 x3 x4 M bq → wR G M H → va_S (wA G) s.heap H locs → (cells + bq ≤ (room_1).cells ∧ slots + bq ≤ (room_1).slots) → lv_has ls 9 [(0, .ref x0), (1, .ref x1), (2, .ref x2), (3, .ref x3), (4, .int x4)] → W p l e room_1 s m ([.ref p1] : List Value).toArray below meth c H locs cells slots (lw_Z below ([.ref p1] : List Value).toArray s) (F0 m 23 ls [])), ∀ (x0 : Nat) (x1 : Nat) (x2 : Nat) (x3 : Nat) (x4 : Int32) (M : wM) (bq : Nat) (H : Heap) (locs : List Loc) (ls : Array Slot) (cells slots : Nat), B_L_law_1560 G rec23 Q x0 x1 x2 x3 x4 M bq → wR G M H → va_S (wA G) s.heap H locs → (cells + bq ≤ (room_1).cells ∧ slots + bq ≤ (room_1).slots) → lv_has ls 9 [(0, .ref x0), (1, .ref x1), (2, .ref x2), (3, .ref x3), (4, .int x4)] → W p l e room_1 s m ([.ref p1] : List Value).toArray below meth c H locs cells slots (lw_Z below ([.ref p1] : List Value).toArray s) (F0 m 1560 ls []) := by
    intro rec23 hrec23 x0 x1 x2 x3 x4 M bq H locs ls cells slots hp hM hS hB hl
    refine lv_goto (tgt := 2847) hx hb dL_law_1560 (by decide) ?_
    exact hB2847 rec23 hrec23 _ _ _ _ _ _ _ _ _ _ _ _ hp hM hS hB (lv_sub hl [0, 1, 2, 3, 4] rfl)
  have hB1628 : ∀ (rec23 : Nat → Nat → Nat → Nat → Int32 → wM → Nat → Prop) (hrec23 : ∀ (x0 : Nat) (x1 : Nat) (x2 : Nat) (x3 : Nat) (x4 : Int32) (M : wM) (bq : Nat) (H : Heap) (locs : List Loc) (ls : Array Slot) (cells slots : Nat), rec23 x0 x1 x2 x3 x4 M bq → wR G M H → va_S (wA G) s.heap H locs → (cells + bq ≤ (room_1).cells ∧ slots + bq ≤ (room_1).slots) → lv_has ls 9 [(0, .ref x0), (1, .ref x1), (2, .ref x2), (3, .ref x3), (4, .int x4)] → W p l e room_1 s m ([.ref p1] : List Value).toArray below meth c H locs cells slots (lw_Z below ([.ref p1] : List Value).toArray s) (F0 m 23 ls [])), ∀ (x0 : Nat) (x1 : Nat) (x2 : Nat) (x3 : Nat) (x4 : Int32) (M : wM) (bq : Nat) (H : Heap) (locs : List Loc) (ls : Array Slot) (cells slots : Nat), B_L_law_1628 G rec23 Q x0 x1 x2 x3 x4 M bq → wR G M H → va_S (wA G) s.heap H locs → (cells + bq ≤ (room_1).cells ∧ slots + bq ≤ (room_1).slots) → lv_has ls 9 [(0, .ref x0), (1, .ref x1), (2, .ref x2), (3, .ref x3), (4, .int x4)] → W p l e room_1 s m ([.ref p1] : List Value).toArray below meth c H locs cells slots (lw_Z below ([.ref p1] : List Value).toArray s) (F0 m 1628 ls []) := by
    intro rec23 hrec23 x0 x1 x2 x3 x4 M bq H locs ls cells slots hp hM hS hB hl
    refine lv_goto (tgt := 2847) hx hb dL_law_1628 (by decide) ?_
    exact hB2847 rec23 hrec23 _ _ _ _ _ _ _ _ _ _ _ _ hp hM hS hB (lv_sub hl [0, 1, 2, 3, 4] rfl)
  have hB1684 : ∀ (rec23 : Nat → Nat → Nat → Nat → Int32 → wM → Nat → Prop) (hrec23 : ∀ (x0 : Nat) (x1 : Nat) (x2 : Nat) (x3 : Nat) (x4 : Int32) (M : wM) (bq : Nat) (H : Heap) (locs : List Loc) (ls : Array Slot) (cells slots : Nat), rec23 x0 x1 x2 x3 x4 M bq → wR G M H → va_S (wA G) s.heap H locs → (cells + bq ≤ (room_1).cells ∧ slots + bq ≤ (room_1).slots) → lv_has ls 9 [(0, .ref x0), (1, .ref x1), (2, .ref x2), (3, .ref x3), (4, .int x4)] → W p l e room_1 s m ([.ref p1] : List Value).toArray below meth c H locs cells slots (lw_Z below ([.ref p1] : List Value).toArray s) (F0 m 23 ls [])), ∀ (x0 : Nat) (x1 : Nat) (x2 : Nat) (x3 : Nat) (x4 : Int32) (M : wM) (bq : Nat) (H : Heap) (locs : List Loc) (ls : Array Slot) (cells slots : Nat), B_L_law_1684 G rec23 Q x0 x1 x2 x3 x4 M bq → wR G M H → va_S (wA G) s.heap H locs → (cells + bq ≤ (room_1).cells ∧ slots + bq ≤ (room_1).slots) → lv_has ls 9 [(0, .ref x0), (1, .ref x1), (2, .ref x2), (3, .ref x3), (4, .int x4)] → W p l e room_1 s m ([.ref p1] : List Value).toArray below meth c H locs cells slots (lw_Z below ([.ref p1] : List Value).toArray s) (F0 m 1684 ls []) := by
    intro rec23 hrec23 x0 x1 x2 x3 x4 M bq H locs ls cells slots hp hM hS hB hl
    refine lv_goto (tgt := 2847) hx hb dL_law_1684 (by decide) ?_
    exact hB2847 rec23 hrec23 _ _ _ _ _ _ _ _ _ _ _ _ hp hM hS hB (lv_sub hl [0, 1, 2, 3, 4] rfl)
  have hB1740 : ∀ (rec23 : Nat → Nat → Nat → Nat → Int32 → wM → Nat → Prop) (hrec23 : ∀ (x0 : Nat) (x1 : Nat) (x2 : Nat) (x3 : Nat) (x4 : Int32) (M : wM) (bq : Nat) (H : Heap) (locs : List Loc) (ls : Array Slot) (cells slots : Nat), rec23 x0 x1 x2 x3 x4 M bq → wR G M H → va_S (wA G) s.heap H locs → (cells + bq ≤ (room_1).cells ∧ slots + bq ≤ (room_1).slots) → lv_has ls 9 [(0, .ref x0), (1, .ref x1), (2, .ref x2), (3, .ref x3), (4, .int x4)] → W p l e room_1 s m ([.ref p1] : List Value).toArray below meth c H locs cells slots (lw_Z below ([.ref p1] : List Value).toArray s) (F0 m 23 ls [])), ∀ (x0 : Nat) (x1 : Nat) (x2 : Nat) (x3 : Nat) (x4 : Int32) (M : wM) (bq : Nat) (H : Heap) (locs : List Loc) (ls : Array Slot) (cells slots : Nat), B_L_law_1740 G rec23 Q x0 x1 x2 x3 x4 M bq → wR G M H → va_S (wA G) s.heap H locs → (cells + bq ≤ (room_1).cells ∧ slots + bq ≤ (room_1).slots) → lv_has ls 9 [(0, .ref x0), (1, .ref x1), (2, .ref x2), (3, .ref x3), (4, .int x4)] → W p l e room_1 s m ([.ref p1] : List Value).toArray below meth c H locs cells slots (lw_Z below ([.ref p1] : List Value).toArray s) (F0 m 1740 ls []) := by
    intro rec23 hrec23 x0 x1 x2 x3 x4 M bq H locs ls cells slots hp hM hS hB hl
    refine lv_goto (tgt := 2847) hx hb dL_law_1740 (by decide) ?_
    exact hB2847 rec23 hrec23 _ _ _ _ _ _ _ _ _ _ _ _ hp hM hS hB (lv_sub hl [0, 1, 2, 3, 4] rfl)
  have hB1796 : ∀ (rec23 : Nat → Nat → Nat → Nat → Int32 → wM → Nat → Prop) (hrec23 : ∀ (x0 : Nat) (x1 : Nat) (x2 : Nat) (x3 : Nat) (x4 : Int32) (M : wM) (bq : Nat) (H : Heap) (locs : List Loc) (ls : Array Slot) (cells slots : Nat), rec23 x0 x1 x2 x3 x4 M bq → wR G M H → va_S (wA G) s.heap H locs → (cells + bq ≤ (room_1).cells ∧ slots + bq ≤ (room_1).slots) → lv_has ls 9 [(0, .ref x0), (1, .ref x1), (2, .ref x2), (3, .ref x3), (4, .int x4)] → W p l e room_1 s m ([.ref p1] : List Value).toArray below meth c H locs cells slots (lw_Z below ([.ref p1] : List Value).toArray s) (F0 m 23 ls [])), ∀ (x0 : Nat) (x1 : Nat) (x2 : Nat) (x3 : Nat) (x4 : Int32) (M : wM) (bq : Nat) (H : Heap) (locs : List Loc) (ls : Array Slot) (cells slots : Nat), B_L_law_1796 G rec23 Q x0 x1 x2 x3 x4 M bq → wR G M H → va_S (wA G) s.heap H locs → (cells + bq ≤ (room_1).cells ∧ slots + bq ≤ (room_1).slots) → lv_has ls 9 [(0, .ref x0), (1, .ref x1), (2, .ref x2), (3, .ref x3), (4, .int x4)] → W p l e room_1 s m ([.ref p1] : List Value).toArray below meth c H locs cells slots (lw_Z below ([.ref p1] : List Value).toArray s) (F0 m 1796 ls []) := by
    intro rec23 hrec23 x0 x1 x2 x3 x4 M bq H locs ls cells slots hp hM hS hB hl
    refine lv_goto (tgt := 2847) hx hb dL_law_1796 (by decide) ?_
    exact hB2847 rec23 hrec23 _ _ _ _ _ _ _ _ _ _ _ _ hp hM hS hB (lv_sub hl [0, 1, 2, 3, 4] rfl)
  have hB1876 : ∀ (rec23 : Nat → Nat → Nat → Nat → Int32 → wM → Nat → Prop) (hrec23 : ∀ (x0 : Nat) (x1 : Nat) (x2 : Nat) (x3 : Nat) (x4 : Int32) (M : wM) (bq : Nat) (H : Heap) (locs : List Loc) (ls : Array Slot) (cells slots : Nat), rec23 x0 x1 x2 x3 x4 M bq → wR G M H → va_S (wA G) s.heap H locs → (cells + bq ≤ (room_1).cells ∧ slots + bq ≤ (room_1).slots) → lv_has ls 9 [(0, .ref x0), (1, .ref x1), (2, .ref x2), (3, .ref x3), (4, .int x4)] → W p l e room_1 s m ([.ref p1] : List Value).toArray below meth c H locs cells slots (lw_Z below ([.ref p1] : List Value).toArray s) (F0 m 23 ls [])), ∀ (x0 : Nat) (x1 : Nat) (x2 : Nat) (x3 : Nat) (x4 : Int32) (M : wM) (bq : Nat) (H : Heap) (locs : List Loc) (ls : Array Slot) (cells slots : Nat), B_L_law_1876 G rec23 Q x0 x1 x2 x3 x4 M bq → wR G M H → va_S (wA G) s.heap H locs → (cells + bq ≤ (room_1).cells ∧ slots + bq ≤ (room_1).slots) → lv_has ls 9 [(0, .ref x0), (1, .ref x1), (2, .ref x2), (3, .ref x3), (4, .int x4)] → W p l e room_1 s m ([.ref p1] : List Value).toArray below meth c H locs cells slots (lw_Z below ([.ref p1] : List Value).toArray s) (F0 m 1876 ls []) := by
    intro rec23 hrec23 x0 x1 x2 x3 x4 M bq H locs ls cells slots hp hM hS hB hl
    refine lv_goto (tgt := 2847) hx hb dL_law_1876 (by decide) ?_
    exact hB2847 rec23 hrec23 _ _ _ _ _ _ _ _ _ _ _ _ hp hM hS hB (lv_sub hl [0, 1, 2, 3, 4] rfl)
  have hB1944 : ∀ (rec23 : Nat → Nat → Nat → Nat → Int32 → wM → Nat → Prop) (hrec23 : ∀ (x0 : Nat) (x1 : Nat) (x2 : Nat) (x3 : Nat) (x4 : Int32) (M : wM) (bq : Nat) (H : Heap) (locs : List Loc) (ls : Array Slot) (cells slots : Nat), rec23 x0 x1 x2 x3 x4 M bq → wR G M H → va_S (wA G) s.heap H locs → (cells + bq ≤ (room_1).cells ∧ slots + bq ≤ (room_1).slots) → lv_has ls 9 [(0, .ref x0), (1, .ref x1), (2, .ref x2), (3, .ref x3), (4, .int x4)] → W p l e room_1 s m ([.ref p1] : List Value).toArray below meth c H locs cells slots (lw_Z below ([.ref p1] : List Value).toArray s) (F0 m 23 ls [])), ∀ (x0 : Nat) (x1 : Nat) (x2 : Nat) (x3 : Nat) (x4 : Int32) (M : wM) (bq : Nat) (H : Heap) (locs : List Loc) (ls : Array Slot) (cells slots : Nat), B_L_law_1944 G rec23 Q x0 x1 x2 x3 x4 M bq → wR G M H → va_S (wA G) s.heap H locs → (cells + bq ≤ (room_1).cells ∧ slots + bq ≤ (room_1).slots) → lv_has ls 9 [(0, .ref x0), (1, .ref x1), (2, .ref x2), (3, .ref x3), (4, .int x4)] → W p l e room_1 s m ([.ref p1] : List Value).toArray below meth c H locs cells slots (lw_Z below ([.ref p1] : List Value).toArray s) (F0 m 1944 ls []) := by
    intro rec23 hrec23 x0 x1 x2 x3 x4 M bq H locs ls cells slots hp hM hS hB hl
    refine lv_goto (tgt := 2847) hx hb dL_law_1944 (by decide) ?_
    exact hB2847 rec23 hrec23 _ _ _ _ _ _ _ _ _ _ _ _ hp hM hS hB (lv_sub hl [0, 1, 2, 3, 4] rfl)
  have hB2000 : ∀ (rec23 : Nat → Nat → Nat → Nat → Int32 → wM → Nat → Prop) (hrec23 : ∀ (x0 : Nat) (x1 : Nat) (x2 : Nat) (x3 : Nat) (x4 : Int32) (M : wM) (bq : Nat) (H : Heap) (locs : List Loc) (ls : Array Slot) (cells slots : Nat), rec23 x0 x1 x2 x3 x4 M bq → wR G M H → va_S (wA G) s.heap H locs → (cells + bq ≤ (room_1).cells ∧ slots + bq ≤ (room_1).slots) → lv_has ls 9 [(0, .ref x0), (1, .ref x1), (2, .ref x2), (3, .ref x3), (4, .int x4)] → W p l e room_1 s m ([.ref p1] : List Value).toArray below meth c H locs cells slots (lw_Z below ([.ref p1] : List Value).toArray s) (F0 m 23 ls [])), ∀ (x0 : Nat) (x1 : Nat) (x2 : Nat) (x3 : Nat) (x4 : Int32) (M : wM) (bq : Nat) (H : Heap) (locs : List Loc) (ls : Array Slot) (cells slots : Nat), B_L_law_2000 G rec23 Q x0 x1 x2 x3 x4 M bq → wR G M H → va_S (wA G) s.heap H locs → (cells + bq ≤ (room_1).cells ∧ slots + bq ≤ (room_1).slots) → lv_has ls 9 [(0, .ref x0), (1, .ref x1), (2, .ref x2), (3, .ref x3), (4, .int x4)] → W p l e room_1 s m ([.ref p1] : List Value).toArray below meth c H locs cells slots (lw_Z below ([.ref p1] : List Value).toArray s) (F0 m 2000 ls []) := by
    intro rec23 hrec23 x0 x1 x2 x3 x4 M bq H locs ls cells slots hp hM hS hB hl
    refine lv_goto (tgt := 2847) hx hb dL_law_2000 (by decide) ?_
    exact hB2847 rec23 hrec23 _ _ _ _ _ _ _ _ _ _ _ _ hp hM hS hB (lv_sub hl [0, 1, 2, 3, 4] rfl)
  have hB2068 : ∀ (rec23 : Nat → Nat → Nat → Nat → Int32 → wM → Nat → Prop) (hrec23 : ∀ (x0 : Nat) (x1 : Nat) (x2 : Nat) (x3 : Nat) (x4 : Int32) (M : wM) (bq : Nat) (H : Heap) (locs : List Loc) (ls : Array Slot) (cells slots : Nat), rec23 x0 x1 x2 x3 x4 M bq → wR G M H → va_S (wA G) s.heap H locs → (cells + bq ≤ (room_1).cells ∧ slots + bq ≤ (room_1).slots) → lv_has ls 9 [(0, .ref x0), (1, .ref x1), (2, .ref x2), (3, .ref x3), (4, .int x4)] → W p l e room_1 s m ([.ref p1] : List Value).toArray below meth c H locs cells slots (lw_Z below ([.ref p1] : List Value).toArray s) (F0 m 23 ls [])), ∀ (x0 : Nat) (x1 : Nat) (x2 : Nat) (x3 : Nat) (x4 : Int32) (M : wM) (bq : Nat) (H : Heap) (locs : List Loc) (ls : Array Slot) (cells slots : Nat), B_L_law_2068 G rec23 Q x0 x1 x2 x3 x4 M bq → wR G M H → va_S (wA G) s.heap H locs → (cells + bq ≤ (room_1).cells ∧ slots + bq ≤ (room_1).slots) → lv_has ls 9 [(0, .ref x0), (1, .ref x1), (2, .ref x2), (3, .ref x3), (4, .int x4)] → W p l e room_1 s m ([.ref p1] : List Value).toArray below meth c H locs cells slots (lw_Z below ([.ref p1] : List Value).toArray s) (F0 m 2068 ls []) := by
    intro rec23 hrec23 x0 x1 x2 x3 x4 M bq H locs ls cells slots hp hM hS hB hl
    refine lv_goto (tgt := 2847) hx hb dL_law_2068 (by decide) ?_
    exact hB2847 rec23 hrec23 _ _ _ _ _ _ _ _ _ _ _ _ hp hM hS hB (lv_sub hl [0, 1, 2, 3, 4] rfl)
  have hB2124 : ∀ (rec23 : Nat → Nat → Nat → Nat → Int32 → wM → Nat → Prop) (hrec23 : ∀ (x0 : Nat) (x1 : Nat) (x2 : Nat) (x3 : Nat) (x4 : Int32) (M : wM) (bq : Nat) (H : Heap) (locs : List Loc) (ls : Array Slot) (cells slots : Nat), rec23 x0 x1 x2 x3 x4 M bq → wR G M H → va_S (wA G) s.heap H locs → (cells + bq ≤ (room_1).cells ∧ slots + bq ≤ (room_1).slots) → lv_has ls 9 [(0, .ref x0), (1, .ref x1), (2, .ref x2), (3, .ref x3), (4, .int x4)] → W p l e room_1 s m ([.ref p1] : List Value).toArray below meth c H locs cells slots (lw_Z below ([.ref p1] : List Value).toArray s) (F0 m 23 ls [])), ∀ (x0 : Nat) (x1 : Nat) (x2 : Nat) (x3 : Nat) (x4 : Int32) (M : wM) (bq : Nat) (H : Heap) (locs : List Loc) (ls : Array Slot) (cells slots : Nat), B_L_law_2124 G rec23 Q x0 x1 x2 x3 x4 M bq → wR G M H → va_S (wA G) s.heap H locs → (cells + bq ≤ (room_1).cells ∧ slots + bq ≤ (room_1).slots) → lv_has ls 9 [(0, .ref x0), (1, .ref x1), (2, .ref x2), (3, .ref x3), (4, .int x4)] → W p l e room_1 s m ([.ref p1] : List Value).toArray below meth c H locs cells slots (lw_Z below ([.ref p1] : List Value).toArray s) (F0 m 2124 ls []) := by
    intro rec23 hrec23 x0 x1 x2 x3 x4 M bq H locs ls cells slots hp hM hS hB hl
    refine lv_goto (tgt := 2847) hx hb dL_law_2124 (by decide) ?_
    exact hB2847 rec23 hrec23 _ _ _ _ _ _ _ _ _ _ _ _ hp hM hS hB (lv_sub hl [0, 1, 2, 3, 4] rfl)
  have hB2180 : ∀ (rec23 : Nat → Nat → Nat → Nat → Int32 → wM → Nat → Prop) (hrec23 : ∀ (x0 : Nat) (x1 : Nat) (x2 : Nat) (x3 : Nat) (x4 : Int32) (M : wM) (bq : Nat) (H : Heap) (locs : List Loc) (ls : Array Slot) (cells slots : Nat), rec23 x0 x1 x2 x3 x4 M bq → wR G M H → va_S (wA G) s.heap H locs → (cells + bq ≤ (room_1).cells ∧ slots + bq ≤ (room_1).slots) → lv_has ls 9 [(0, .ref x0), (1, .ref x1), (2, .ref x2), (3, .ref x3), (4, .int x4)] → W p l e room_1 s m ([.ref p1] : List Value).toArray below meth c H locs cells slots (lw_Z below ([.ref p1] : List Value).toArray s) (F0 m 23 ls [])), ∀ (x0 : Nat) (x1 : Nat) (x2 : Nat) (x3 : Nat) (x4 : Int32) (M : wM) (bq : Nat) (H : Heap) (locs : List Loc) (ls : Array Slot) (cells slots : Nat), B_L_law_2180 G rec23 Q x0 x1 x2 x3 x4 M bq → wR G M H → va_S (wA G) s.heap H locs → (cells + bq ≤ (room_1).cells ∧ slots + bq ≤ (room_1).slots) → lv_has ls 9 [(0, .ref x0), (1, .ref x1), (2, .ref x2), (3, .ref x3), (4, .int x4)] → W p l e room_1 s m ([.ref p1] : List Value).toArray below meth c H locs cells slots (lw_Z below ([.ref p1] : List Value).toArray s) (F0 m 2180 ls []) := by
    intro rec23 hrec23 x0 x1 x2 x3 x4 M bq H locs ls cells slots hp hM hS hB hl
    refine lv_goto (tgt := 2847) hx hb dL_law_2180 (by decide) ?_
    exact hB2847 rec23 hrec23 _ _ _ _ _ _ _ _ _ _ _ _ hp hM hS hB (lv_sub hl [0, 1, 2, 3, 4] rfl)
  have hB2243 : ∀ (rec23 : Nat → Nat → Nat → Nat → Int32 → wM → Nat → Prop) (hrec23 : ∀ (x0 : Nat) (x1 : Nat) (x2 : Nat) (x3 : Nat) (x4 : Int32) (M : wM) (bq : Nat) (H : Heap) (locs : List Loc) (ls : Array Slot) (cells slots : Nat), rec23 x0 x1 x2 x3 x4 M bq → wR G M H → va_S (wA G) s.heap H locs → (cells + bq ≤ (room_1).cells ∧ slots + bq ≤ (room_1).slots) → lv_has ls 9 [(0, .ref x0), (1, .ref x1), (2, .ref x2), (3, .ref x3), (4, .int x4)] → W p l e room_1 s m ([.ref p1] : List Value).toArray below meth c H locs cells slots (lw_Z below ([.ref p1] : List Value).toArray s) (F0 m 23 ls [])), ∀ (x0 : Nat) (x1 : Nat) (x2 : Nat) (x3 : Nat) (x4 : Int32) (M : wM) (bq : Nat) (H : Heap) (locs : List Loc) (ls : Array Slot) (cells slots : Nat), B_L_law_2243 G rec23 Q x0 x1 x2 x3 x4 M bq → wR G M H → va_S (wA G) s.heap H locs → (cells + bq ≤ (room_1).cells ∧ slots + bq ≤ (room_1).slots) → lv_has ls 9 [(0, .ref x0), (1, .ref x1), (2, .ref x2), (3, .ref x3), (4, .int x4)] → W p l e room_1 s m ([.ref p1] : List Value).toArray below meth c H locs cells slots (lw_Z below ([.ref p1] : List Value).toArray s) (F0 m 2243 ls []) := by
    intro rec23 hrec23 x0 x1 x2 x3 x4 M bq H locs ls cells slots hp hM hS hB hl
    refine lv_goto (tgt := 2847) hx hb dL_law_2243 (by decide) ?_
    exact hB2847 rec23 hrec23 _ _ _ _ _ _ _ _ _ _ _ _ hp hM hS hB (lv_sub hl [0, 1, 2, 3, 4] rfl)
  have hB2237 : ∀ (rec23 : Nat → Nat → Nat → Nat → Int32 → wM → Nat → Prop) (hrec23 : ∀ (x0 : Nat) (x1 : Nat) (x2 : Nat) (x3 : Nat) (x4 : Int32) (M : wM) (bq : Nat) (H : Heap) (locs : List Loc) (ls : Array Slot) (cells slots : Nat), rec23 x0 x1 x2 x3 x4 M bq → wR G M H → va_S (wA G) s.heap H locs → (cells + bq ≤ (room_1).cells ∧ slots + bq ≤ (room_1).slots) → lv_has ls 9 [(0, .ref x0), (1, .ref x1), (2, .ref x2), (3, .ref x3), (4, .int x4)] → W p l e room_1 s m ([.ref p1] : List Value).toArray below meth c H locs cells slots (lw_Z below ([.ref p1] : List Value).toArray s) (F0 m 23 ls [])), ∀ (x0 : Nat) (x1 : Nat) (x2 : Nat) (x3 : Nat) (x4 : Int32) (y0 : Int64) (y1 : Int64) (M : wM) (bq : Nat) (H : Heap) (locs : List Loc) (ls : Array Slot) (cells slots : Nat), B_L_law_2237 G rec23 Q x0 x1 x2 x3 x4 y0 y1 M bq → wR G M H → va_S (wA G) s.heap H locs → (cells + bq ≤ (room_1).cells ∧ slots + bq ≤ (room_1).slots) → lv_has ls 9 [(0, .ref x0), (1, .ref x1), (2, .ref x2), (3, .ref x3), (4, .int x4)] → W p l e room_1 s m ([.ref p1] : List Value).toArray below meth c H locs cells slots (lw_Z below ([.ref p1] : List Value).toArray s) (F0 m 2237 ls [.long y0, .long y1]) := by
    intro rec23 hrec23 x0 x1 x2 x3 x4 y0 y1 M bq H locs ls cells slots hp hM hS hB hl
    refine W.lcmp hx hb dL_law_2237 ?_
    refine lv_if_eq (tgt := 2243) hx hb dL_law_2238 (by decide) (fun hc => ?_) (fun hc => ?_)
    · have hp := oIf.t hp hc
      exact hB2243 rec23 hrec23 _ _ _ _ _ _ _ _ _ _ _ _ hp hM hS hB (lv_sub hl [0, 1, 2, 3, 4] rfl)
    · have hp := oIf.f hp hc
      exact hp.elim
  have hB2311 : ∀ (rec23 : Nat → Nat → Nat → Nat → Int32 → wM → Nat → Prop) (hrec23 : ∀ (x0 : Nat) (x1 : Nat) (x2 : Nat) (x3 : Nat) (x4 : Int32) (M : wM) (bq : Nat) (H : Heap) (locs : List Loc) (ls : Array Slot) (cells slots : Nat), rec23 x0 x1 x2 x3 x4 M bq → wR G M H → va_S (wA G) s.heap H locs → (cells + bq ≤ (room_1).cells ∧ slots + bq ≤ (room_1).slots) → lv_has ls 9 [(0, .ref x0), (1, .ref x1), (2, .ref x2), (3, .ref x3), (4, .int x4)] → W p l e room_1 s m ([.ref p1] : List Value).toArray below meth c H locs cells slots (lw_Z below ([.ref p1] : List Value).toArray s) (F0 m 23 ls [])), ∀ (x0 : Nat) (x1 : Nat) (x2 : Nat) (x3 : Nat) (x4 : Int32) (M : wM) (bq : Nat) (H : Heap) (locs : List Loc) (ls : Array Slot) (cells slots : Nat), B_L_law_2311 G rec23 Q x0 x1 x2 x3 x4 M bq → wR G M H → va_S (wA G) s.heap H locs → (cells + bq ≤ (room_1).cells ∧ slots + bq ≤ (room_1).slots) → lv_has ls 9 [(0, .ref x0), (1, .ref x1), (2, .ref x2), (3, .ref x3), (4, .int x4)] → W p l e room_1 s m ([.ref p1] : List Value).toArray below meth c H locs cells slots (lw_Z below ([.ref p1] : List Value).toArray s) (F0 m 2311 ls []) := by
    intro rec23 hrec23 x0 x1 x2 x3 x4 M bq H locs ls cells slots hp hM hS hB hl
    refine lv_goto (tgt := 2847) hx hb dL_law_2311 (by decide) ?_
    exact hB2847 rec23 hrec23 _ _ _ _ _ _ _ _ _ _ _ _ hp hM hS hB (lv_sub hl [0, 1, 2, 3, 4] rfl)
  have hB2402 : ∀ (rec23 : Nat → Nat → Nat → Nat → Int32 → wM → Nat → Prop) (hrec23 : ∀ (x0 : Nat) (x1 : Nat) (x2 : Nat) (x3 : Nat) (x4 : Int32) (M : wM) (bq : Nat) (H : Heap) (locs : List Loc) (ls : Array Slot) (cells slots : Nat), rec23 x0 x1 x2 x3 x4 M bq → wR G M H → va_S (wA G) s.heap H locs → (cells + bq ≤ (room_1).cells ∧ slots + bq ≤ (room_1).slots) → lv_has ls 9 [(0, .ref x0), (1, .ref x1), (2, .ref x2), (3, .ref x3), (4, .int x4)] → W p l e room_1 s m ([.ref p1] : List Value).toArray below meth c H locs cells slots (lw_Z below ([.ref p1] : List Value).toArray s) (F0 m 23 ls [])), ∀ (x0 : Nat) (x1 : Nat) (x2 : Nat) (x3 : Nat) (x4 : Int32) (M : wM) (bq : Nat) (H : Heap) (locs : List Loc) (ls : Array Slot) (cells slots : Nat), B_L_law_2402 G rec23 Q x0 x1 x2 x3 x4 M bq → wR G M H → va_S (wA G) s.heap H locs → (cells + bq ≤ (room_1).cells ∧ slots + bq ≤ (room_1).slots) → lv_has ls 9 [(0, .ref x0), (1, .ref x1), (2, .ref x2), (3, .ref x3), (4, .int x4)] → W p l e room_1 s m ([.ref p1] : List Value).toArray below meth c H locs cells slots (lw_Z below ([.ref p1] : List Value).toArray s) (F0 m 2402 ls []) := by
    intro rec23 hrec23 x0 x1 x2 x3 x4 M bq H locs ls cells slots hp hM hS hB hl
    refine lv_goto (tgt := 2847) hx hb dL_law_2402 (by decide) ?_
    exact hB2847 rec23 hrec23 _ _ _ _ _ _ _ _ _ _ _ _ hp hM hS hB (lv_sub hl [0, 1, 2, 3, 4] rfl)
  have hB2396 : ∀ (rec23 : Nat → Nat → Nat → Nat → Int32 → wM → Nat → Prop) (hrec23 : ∀ (x0 : Nat) (x1 : Nat) (x2 : Nat) (x3 : Nat) (x4 : Int32) (M : wM) (bq : Nat) (H : Heap) (locs : List Loc) (ls : Array Slot) (cells slots : Nat), rec23 x0 x1 x2 x3 x4 M bq → wR G M H → va_S (wA G) s.heap H locs → (cells + bq ≤ (room_1).cells ∧ slots + bq ≤ (room_1).slots) → lv_has ls 9 [(0, .ref x0), (1, .ref x1), (2, .ref x2), (3, .ref x3), (4, .int x4)] → W p l e room_1 s m ([.ref p1] : List Value).toArray below meth c H locs cells slots (lw_Z below ([.ref p1] : List Value).toArray s) (F0 m 23 ls [])), ∀ (x0 : Nat) (x1 : Nat) (x2 : Nat) (x3 : Nat) (x4 : Int32) (y0 : Int64) (y1 : Int64) (M : wM) (bq : Nat) (H : Heap) (locs : List Loc) (ls : Array Slot) (cells slots : Nat), B_L_law_2396 G rec23 Q x0 x1 x2 x3 x4 y0 y1 M bq → wR G M H → va_S (wA G) s.heap H locs → (cells + bq ≤ (room_1).cells ∧ slots + bq ≤ (room_1).slots) → lv_has ls 9 [(0, .ref x0), (1, .ref x1), (2, .ref x2), (3, .ref x3), (4, .int x4)] → W p l e room_1 s m ([.ref p1] : List Value).toArray below meth c H locs cells slots (lw_Z below ([.ref p1] : List Value).toArray s) (F0 m 2396 ls [.long y0, .long y1]) := by
    intro rec23 hrec23 x0 x1 x2 x3 x4 y0 y1 M bq H locs ls cells slots hp hM hS hB hl
    refine W.lcmp hx hb dL_law_2396 ?_
    refine lv_if_eq (tgt := 2402) hx hb dL_law_2397 (by decide) (fun hc => ?_) (fun hc => ?_)
    · have hp := oIf.t hp hc
      exact hB2402 rec23 hrec23 _ _ _ _ _ _ _ _ _ _ _ _ hp hM hS hB (lv_sub hl [0, 1, 2, 3, 4] rfl)
    · have hp := oIf.f hp hc
      exact hp.elim
  have hB2362 : ∀ (rec23 : Nat → Nat → Nat → Nat → Int32 → wM → Nat → Prop) (hrec23 : ∀ (x0 : Nat) (x1 : Nat) (x2 : Nat) (x3 : Nat) (x4 : Int32) (M : wM) (bq : Nat) (H : Heap) (locs : List Loc) (ls : Array Slot) (cells slots : Nat), rec23 x0 x1 x2 x3 x4 M bq → wR G M H → va_S (wA G) s.heap H locs → (cells + bq ≤ (room_1).cells ∧ slots + bq ≤ (room_1).slots) → lv_has ls 9 [(0, .ref x0), (1, .ref x1), (2, .ref x2), (3, .ref x3), (4, .int x4)] → W p l e room_1 s m ([.ref p1] : List Value).toArray below meth c H locs cells slots (lw_Z below ([.ref p1] : List Value).toArray s) (F0 m 23 ls [])), ∀ (x0 : Nat) (x1 : Nat) (x2 : Nat) (x3 : Nat) (x4 : Int32) (x5 : Int32) (y0 : Int32) (y1 : Int32) (y2 : Nat) (M : wM) (bq : Nat) (H : Heap) (locs : List Loc) (ls : Array Slot) (cells slots : Nat), B_L_law_2362 G rec23 Q x0 x1 x2 x3 x4 x5 y0 y1 y2 M bq → wR G M H → va_S (wA G) s.heap H locs → (cells + bq ≤ (room_1).cells ∧ slots + bq ≤ (room_1).slots) → lv_has ls 9 [(0, .ref x0), (1, .ref x1), (2, .ref x2), (3, .ref x3), (4, .int x4), (5, .int x5)] → W p l e room_1 s m ([.ref p1] : List Value).toArray below meth c H locs cells slots (lw_Z below ([.ref p1] : List Value).toArray s) (F0 m 2362 ls [.int y0, .int y1, .ref y2]) := by
    intro rec23 hrec23 x0 x1 x2 x3 x4 x5 y0 y1 y2 M bq H locs ls cells slots hp hM hS hB hl
    obtain ⟨hrec, hp⟩ := hp
    refine x_call0Z (vx_runV (As := [.int y1, .int y0]) (rest := []) X (P_X4_suspend_ok (l := l) hl0 hp) (cwV 2 hts (lw_V q3584 q3585 q3586 q178 q3587) rfl rfl rfl (by decide +kernel) ⟨Nat.le_of_ble_eq_true rfl, Nat.le_of_ble_eq_true rfl⟩) ⟨wPc.blind, w_recv hC.1 hM (ci := 3) (q := (RX4, TX4, 28)) rfl hrec, w_pre hC hM hS _⟩ rfl rfl hl.1 rfl (lv_room (Nat.le_of_ble_eq_true rfl)) dL_law_2362 (w_room0 hB)) hS (w_room0 hB) (fun _ _ _ _ _ _ h => False.elim h) (fun r3 M1 H locs hp hM hS => ?_)
    refine lv_istore (lv' := [(6, .int (wb r3)), (0, .ref x0), (1, .ref x1), (2, .ref x2), (3, .ref x3), (4, .int x4), (5, .int x5)]) hx hb dL_law_2365 hl (by decide) rfl (fun ls hl => ?_)
    refine lv_aload_n hx hb dL_law_2367 rfl (lv_at hl 3 rfl) ?_
    obtain ⟨hrec, hp⟩ := hp
    refine x_call0I (vx_runV (As := []) (rest := []) X (P_X4_thrown_ok (l := l) hl0 hp) (cwV 0 hts (lw_V q3227 q3228 q3229 q178 q3230) rfl rfl rfl (by decide +kernel) ⟨Nat.le_of_ble_eq_true rfl, Nat.le_of_ble_eq_true rfl⟩) ⟨wPc.blind, w_recv hC.1 hM (ci := 3) (q := (RX4, TX4, 28)) rfl hrec, w_pre hC hM hS _⟩ rfl rfl hl.1 rfl (lv_room (Nat.le_of_ble_eq_true rfl)) dL_law_2368 (w_room0 hB)) hS (w_room0 hB) (fun _ _ _ _ _ _ h => False.elim h) (fun v6 M4 H locs hp hM hS => ?_)
    refine lv_iload hx hb dL_law_2371 (lv_at hl 6 rfl) ?_
    refine lv_icmp_eq (tgt := 2378) hx hb dL_law_2373 (by decide) (fun hc => ?_) (fun hc => ?_)
    · have hp := oIf.t hp hc
      refine lv_iload hx hb dL_law_2378 (lv_at hl 6 rfl) ?_
      refine lv_if_ne (tgt := 2402) hx hb dL_law_2380 (by decide) (fun hc => ?_) (fun hc => ?_)
      · have hp := oIf.f hp hc
        exact hB2402 rec23 hrec23 _ _ _ _ _ _ _ _ _ _ _ _ hp hM hS hB (lv_sub hl [1, 2, 3, 4, 5] rfl)
      · have hp := oIf.t hp hc
        refine lv_aload_n hx hb dL_law_2383 rfl (lv_at hl 4 rfl) ?_
        refine lv_iconst (v := 0) hx hb dL_law_2384 (by decide) ?_
        refine x_lald X hC.1 hM dL_law_2385 hp (fun v7 hp => ?_)
        refine lv_iload hx hb dL_law_2386 (lv_at hl 0 rfl) ?_
        refine x_ifeqB (tgt := 2395) hx hb dL_law_2388 (by decide) (fun hc => ?_) (fun hc => ?_)
        · have hp := oIf.bf hp hc
          refine lv_lconst (v := 0) hx hb dL_law_2395 (by decide) ?_
          exact hB2396 rec23 hrec23 _ _ _ _ _ _ _ _ _ _ _ _ _ _ hp hM hS hB (lv_sub hl [1, 2, 3, 4, 5] rfl)
        · have hp := oIf.bt hp hc
          refine lv_lconst (v := 1) hx hb dL_law_2391 (by decide) ?_
          refine lv_goto (tgt := 2396) hx hb dL_law_2392 (by decide) ?_
          exact hB2396 rec23 hrec23 _ _ _ _ _ _ _ _ _ _ _ _ _ _ hp hM hS hB (lv_sub hl [1, 2, 3, 4, 5] rfl)
    · have hp := oIf.f hp hc
      exact hp.elim
  have hB2335 : ∀ (rec23 : Nat → Nat → Nat → Nat → Int32 → wM → Nat → Prop) (hrec23 : ∀ (x0 : Nat) (x1 : Nat) (x2 : Nat) (x3 : Nat) (x4 : Int32) (M : wM) (bq : Nat) (H : Heap) (locs : List Loc) (ls : Array Slot) (cells slots : Nat), rec23 x0 x1 x2 x3 x4 M bq → wR G M H → va_S (wA G) s.heap H locs → (cells + bq ≤ (room_1).cells ∧ slots + bq ≤ (room_1).slots) → lv_has ls 9 [(0, .ref x0), (1, .ref x1), (2, .ref x2), (3, .ref x3), (4, .int x4)] → W p l e room_1 s m ([.ref p1] : List Value).toArray below meth c H locs cells slots (lw_Z below ([.ref p1] : List Value).toArray s) (F0 m 23 ls [])), ∀ (x0 : Nat) (x1 : Nat) (x2 : Nat) (x3 : Nat) (x4 : Int32) (y0 : Int32) (y1 : Int32) (y2 : Nat) (M : wM) (bq : Nat) (H : Heap) (locs : List Loc) (ls : Array Slot) (cells slots : Nat), B_L_law_2335 G rec23 Q x0 x1 x2 x3 x4 y0 y1 y2 M bq → wR G M H → va_S (wA G) s.heap H locs → (cells + bq ≤ (room_1).cells ∧ slots + bq ≤ (room_1).slots) → lv_has ls 9 [(0, .ref x0), (1, .ref x1), (2, .ref x2), (3, .ref x3), (4, .int x4)] → W p l e room_1 s m ([.ref p1] : List Value).toArray below meth c H locs cells slots (lw_Z below ([.ref p1] : List Value).toArray s) (F0 m 2335 ls [.int y0, .int y1, .ref y2]) := by
    intro rec23 hrec23 x0 x1 x2 x3 x4 y0 y1 y2 M bq H locs ls cells slots hp hM hS hB hl
    refine lv_aload_n hx hb dL_law_2335 rfl (lv_at hl 3 rfl) ?_
    obtain ⟨c2, hc1, hp⟩ := hp
    refine x_callI (vx_runSX (As := [.ref y2, .int y1, .int y0, .ref x3]) (rest := []) X (P_X0_suspend_ok (l := l) hl0 hp) (vx_cwSW 4 hts (lw_SW q2971 q2972 q147 q2973) rfl rfl rfl (by decide +kernel) ⟨Nat.le_of_ble_eq_true rfl, Nat.le_of_ble_eq_true rfl⟩) ⟨wPc.blind, w_pre hC hM hS _⟩ rfl rfl hl.1 rfl (lv_room (Nat.le_of_ble_eq_true rfl)) dL_law_2336 (w_room hB hc1)) hS hB hc1 (fun _ _ _ _ _ _ h => False.elim h) (fun v3 M1 H locs hp hM hS hB => ?_)
    refine lv_istore (lv' := [(5, .int v3), (0, .ref x0), (1, .ref x1), (2, .ref x2), (3, .ref x3), (4, .int x4)]) hx hb dL_law_2339 hl (by decide) rfl (fun ls hl => ?_)
    refine lv_aload_n hx hb dL_law_2341 rfl (lv_at hl 3 rfl) ?_
    refine lv_aload_n hx hb dL_law_2342 rfl (lv_at hl 1 rfl) ?_
    refine lv_iload hx hb dL_law_2343 (lv_at hl 5 rfl) ?_
    refine lv_iconst (v := 1) hx hb dL_law_2345 (by decide) ?_
    refine lv_iadd hx hb dL_law_2346 ?_
    refine x_iald X hC.1 hM dL_law_2347 hp (fun v4 hp => ?_)
    refine lv_aload_n hx hb dL_law_2348 rfl (lv_at hl 1 rfl) ?_
    refine lv_iload hx hb dL_law_2349 (lv_at hl 5 rfl) ?_
    refine lv_iconst (v := 2) hx hb dL_law_2351 (by decide) ?_
    refine lv_iadd hx hb dL_law_2352 ?_
    refine x_iald X hC.1 hM dL_law_2353 hp (fun v5 hp => ?_)
    refine lv_if_eq (tgt := 2361) hx hb dL_law_2354 (by decide) (fun hc => ?_) (fun hc => ?_)
    · have hp := oIf.t hp hc
      refine lv_iconst (v := 0) hx hb dL_law_2361 (by decide) ?_
      exact hB2362 rec23 hrec23 _ _ _ _ _ _ _ _ _ _ _ _ _ _ _ _ hp hM hS hB (lv_sub hl [1, 2, 3, 4, 5, 0] rfl)
    · have hp := oIf.f hp hc
      refine lv_iconst (v := 1) hx hb dL_law_2357 (by decide) ?_
      refine lv_goto (tgt := 2362) hx hb dL_law_2358 (by decide) ?_
      exact hB2362 rec23 hrec23 _ _ _ _ _ _ _ _ _ _ _ _ _ _ _ _ hp hM hS hB (lv_sub hl [1, 2, 3, 4, 5, 0] rfl)
  have hB2446 : ∀ (rec23 : Nat → Nat → Nat → Nat → Int32 → wM → Nat → Prop) (hrec23 : ∀ (x0 : Nat) (x1 : Nat) (x2 : Nat) (x3 : Nat) (x4 : Int32) (M : wM) (bq : Nat) (H : Heap) (locs : List Loc) (ls : Array Slot) (cells slots : Nat), rec23 x0 x1 x2 x3 x4 M bq → wR G M H → va_S (wA G) s.heap H locs → (cells + bq ≤ (room_1).cells ∧ slots + bq ≤ (room_1).slots) → lv_has ls 9 [(0, .ref x0), (1, .ref x1), (2, .ref x2), (3, .ref x3), (4, .int x4)] → W p l e room_1 s m ([.ref p1] : List Value).toArray below meth c H locs cells slots (lw_Z below ([.ref p1] : List Value).toArray s) (F0 m 23 ls [])), ∀ (x0 : Nat) (x1 : Nat) (x2 : Nat) (x3 : Nat) (x4 : Int32) (M : wM) (bq : Nat) (H : Heap) (locs : List Loc) (ls : Array Slot) (cells slots : Nat), B_L_law_2446 G rec23 Q x0 x1 x2 x3 x4 M bq → wR G M H → va_S (wA G) s.heap H locs → (cells + bq ≤ (room_1).cells ∧ slots + bq ≤ (room_1).slots) → lv_has ls 9 [(0, .ref x0), (1, .ref x1), (2, .ref x2), (3, .ref x3), (4, .int x4)] → W p l e room_1 s m ([.ref p1] : List Value).toArray below meth c H locs cells slots (lw_Z below ([.ref p1] : List Value).toArray s) (F0 m 2446 ls []) := by
    intro rec23 hrec23 x0 x1 x2 x3 x4 M bq H locs ls cells slots hp hM hS hB hl
    refine lv_goto (tgt := 2847) hx hb dL_law_2446 (by decide) ?_
    exact hB2847 rec23 hrec23 _ _ _ _ _ _ _ _ _ _ _ _ hp hM hS hB (lv_sub hl [0, 1, 2, 3, 4] rfl)
  have hB2514 : ∀ (rec23 : Nat → Nat → Nat → Nat → Int32 → wM → Nat → Prop) (hrec23 : ∀ (x0 : Nat) (x1 : Nat) (x2 : Nat) (x3 : Nat) (x4 : Int32) (M : wM) (bq : Nat) (H : Heap) (locs : List Loc) (ls : Array Slot) (cells slots : Nat), rec23 x0 x1 x2 x3 x4 M bq → wR G M H → va_S (wA G) s.heap H locs → (cells + bq ≤ (room_1).cells ∧ slots + bq ≤ (room_1).slots) → lv_has ls 9 [(0, .ref x0), (1, .ref x1), (2, .ref x2), (3, .ref x3), (4, .int x4)] → W p l e room_1 s m ([.ref p1] : List Value).toArray below meth c H locs cells slots (lw_Z below ([.ref p1] : List Value).toArray s) (F0 m 23 ls [])), ∀ (x0 : Nat) (x1 : Nat) (x2 : Nat) (x3 : Nat) (x4 : Int32) (M : wM) (bq : Nat) (H : Heap) (locs : List Loc) (ls : Array Slot) (cells slots : Nat), B_L_law_2514 G rec23 Q x0 x1 x2 x3 x4 M bq → wR G M H → va_S (wA G) s.heap H locs → (cells + bq ≤ (room_1).cells ∧ slots + bq ≤ (room_1).slots) → lv_has ls 9 [(0, .ref x0), (1, .ref x1), (2, .ref x2), (3, .ref x3), (4, .int x4)] → W p l e room_1 s m ([.ref p1] : List Value).toArray below meth c H locs cells slots (lw_Z below ([.ref p1] : List Value).toArray s) (F0 m 2514 ls []) := by
    intro rec23 hrec23 x0 x1 x2 x3 x4 M bq H locs ls cells slots hp hM hS hB hl
    refine lv_goto (tgt := 2847) hx hb dL_law_2514 (by decide) ?_
    exact hB2847 rec23 hrec23 _ _ _ _ _ _ _ _ _ _ _ _ hp hM hS hB (lv_sub hl [0, 1, 2, 3, 4] rfl)
  have hB2582 : ∀ (rec23 : Nat → Nat → Nat → Nat → Int32 → wM → Nat → Prop) (hrec23 : ∀ (x0 : Nat) (x1 : Nat) (x2 : Nat) (x3 : Nat) (x4 : Int32) (M : wM) (bq : Nat) (H : Heap) (locs : List Loc) (ls : Array Slot) (cells slots : Nat), rec23 x0 x1 x2 x3 x4 M bq → wR G M H → va_S (wA G) s.heap H locs → (cells + bq ≤ (room_1).cells ∧ slots + bq ≤ (room_1).slots) → lv_has ls 9 [(0, .ref x0), (1, .ref x1), (2, .ref x2), (3, .ref x3), (4, .int x4)] → W p l e room_1 s m ([.ref p1] : List Value).toArray below meth c H locs cells slots (lw_Z below ([.ref p1] : List Value).toArray s) (F0 m 23 ls [])), ∀ (x0 : Nat) (x1 : Nat) (x2 : Nat) (x3 : Nat) (x4 : Int32) (M : wM) (bq : Nat) (H : Heap) (locs : List Loc) (ls : Array Slot) (cells slots : Nat), B_L_law_2582 G rec23 Q x0 x1 x2 x3 x4 M bq → wR G M H → va_S (wA G) s.heap H locs → (cells + bq ≤ (room_1).cells ∧ slots + bq ≤ (room_1).slots) → lv_has ls 9 [(0, .ref x0), (1, .ref x1), (2, .ref x2), (3, .ref x3), (4, .int x4)] → W p l e room_1 s m ([.ref p1] : List Value).toArray below meth c H locs cells slots (lw_Z below ([.ref p1] : List Value).toArray s) (F0 m 2582 ls []) := by
    intro rec23 hrec23 x0 x1 x2 x3 x4 M bq H locs ls cells slots hp hM hS hB hl
    refine lv_goto (tgt := 2847) hx hb dL_law_2582 (by decide) ?_
    exact hB2847 rec23 hrec23 _ _ _ _ _ _ _ _ _ _ _ _ hp hM hS hB (lv_sub hl [0, 1, 2, 3, 4] rfl)
  have hB2650 : ∀ (rec23 : Nat → Nat → Nat → Nat → Int32 → wM → Nat → Prop) (hrec23 : ∀ (x0 : Nat) (x1 : Nat) (x2 : Nat) (x3 : Nat) (x4 : Int32) (M : wM) (bq : Nat) (H : Heap) (locs : List Loc) (ls : Array Slot) (cells slots : Nat), rec23 x0 x1 x2 x3 x4 M bq → wR G M H → va_S (wA G) s.heap H locs → (cells + bq ≤ (room_1).cells ∧ slots + bq ≤ (room_1).slots) → lv_has ls 9 [(0, .ref x0), (1, .ref x1), (2, .ref x2), (3, .ref x3), (4, .int x4)] → W p l e room_1 s m ([.ref p1] : List Value).toArray below meth c H locs cells slots (lw_Z below ([.ref p1] : List Value).toArray s) (F0 m 23 ls [])), ∀ (x0 : Nat) (x1 : Nat) (x2 : Nat) (x3 : Nat) (x4 : Int32) (M : wM) (bq : Nat) (H : Heap) (locs : List Loc) (ls : Array Slot) (cells slots : Nat), B_L_law_2650 G rec23 Q x0 x1 x2 x3 x4 M bq → wR G M H → va_S (wA G) s.heap H locs → (cells + bq ≤ (room_1).cells ∧ slots + bq ≤ (room_1).slots) → lv_has ls 9 [(0, .ref x0), (1, .ref x1), (2, .ref x2), (3, .ref x3), (4, .int x4)] → W p l e room_1 s m ([.ref p1] : List Value).toArray below meth c H locs cells slots (lw_Z below ([.ref p1] : List Value).toArray s) (F0 m 2650 ls []) := by
    intro rec23 hrec23 x0 x1 x2 x3 x4 M bq H locs ls cells slots hp hM hS hB hl
    refine lv_goto (tgt := 2847) hx hb dL_law_2650 (by decide) ?_
    exact hB2847 rec23 hrec23 _ _ _ _ _ _ _ _ _ _ _ _ hp hM hS hB (lv_sub hl [0, 1, 2, 3, 4] rfl)
  have hB2706 : ∀ (rec23 : Nat → Nat → Nat → Nat → Int32 → wM → Nat → Prop) (hrec23 : ∀ (x0 : Nat) (x1 : Nat) (x2 : Nat) (x3 : Nat) (x4 : Int32) (M : wM) (bq : Nat) (H : Heap) (locs : List Loc) (ls : Array Slot) (cells slots : Nat), rec23 x0 x1 x2 x3 x4 M bq → wR G M H → va_S (wA G) s.heap H locs → (cells + bq ≤ (room_1).cells ∧ slots + bq ≤ (room_1).slots) → lv_has ls 9 [(0, .ref x0), (1, .ref x1), (2, .ref x2), (3, .ref x3), (4, .int x4)] → W p l e room_1 s m ([.ref p1] : List Value).toArray below meth c H locs cells slots (lw_Z below ([.ref p1] : List Value).toArray s) (F0 m 23 ls [])), ∀ (x0 : Nat) (x1 : Nat) (x2 : Nat) (x3 : Nat) (x4 : Int32) (M : wM) (bq : Nat) (H : Heap) (locs : List Loc) (ls : Array Slot) (cells slots : Nat), B_L_law_2706 G rec23 Q x0 x1 x2 x3 x4 M bq → wR G M H → va_S (wA G) s.heap H locs → (cells + bq ≤ (room_1).cells ∧ slots + bq ≤ (room_1).slots) → lv_has ls 9 [(0, .ref x0), (1, .ref x1), (2, .ref x2), (3, .ref x3), (4, .int x4)] → W p l e room_1 s m ([.ref p1] : List Value).toArray below meth c H locs cells slots (lw_Z below ([.ref p1] : List Value).toArray s) (F0 m 2706 ls []) := by
    intro rec23 hrec23 x0 x1 x2 x3 x4 M bq H locs ls cells slots hp hM hS hB hl
    refine lv_goto (tgt := 2847) hx hb dL_law_2706 (by decide) ?_
    exact hB2847 rec23 hrec23 _ _ _ _ _ _ _ _ _ _ _ _ hp hM hS hB (lv_sub hl [0, 1, 2, 3, 4] rfl)
  have hB2762 : ∀ (rec23 : Nat → Nat → Nat → Nat → Int32 → wM → Nat → Prop) (hrec23 : ∀ (x0 : Nat) (x1 : Nat) (x2 : Nat) (x3 : Nat) (x4 : Int32) (M : wM) (bq : Nat) (H : Heap) (locs : List Loc) (ls : Array Slot) (cells slots : Nat), rec23 x0 x1 x2 x3 x4 M bq → wR G M H → va_S (wA G) s.heap H locs → (cells + bq ≤ (room_1).cells ∧ slots + bq ≤ (room_1).slots) → lv_has ls 9 [(0, .ref x0), (1, .ref x1), (2, .ref x2), (3, .ref x3), (4, .int x4)] → W p l e room_1 s m ([.ref p1] : List Value).toArray below meth c H locs cells slots (lw_Z below ([.ref p1] : List Value).toArray s) (F0 m 23 ls [])), ∀ (x0 : Nat) (x1 : Nat) (x2 : Nat) (x3 : Nat) (x4 : Int32) (M : wM) (bq : Nat) (H : Heap) (locs : List Loc) (ls : Array Slot) (cells slots : Nat), B_L_law_2762 G rec23 Q x0 x1 x2 x3 x4 M bq → wR G M H → va_S (wA G) s.heap H locs → (cells + bq ≤ (room_1).cells ∧ slots + bq ≤ (room_1).slots) → lv_has ls 9 [(0, .ref x0), (1, .ref x1), (2, .ref x2), (3, .ref x3), (4, .int x4)] → W p l e room_1 s m ([.ref p1] : List Value).toArray below meth c H locs cells slots (lw_Z below ([.ref p1] : List Value).toArray s) (F0 m 2762 ls []) := by
    intro rec23 hrec23 x0 x1 x2 x3 x4 M bq H locs ls cells slots hp hM hS hB hl
    refine lv_goto (tgt := 2847) hx hb dL_law_2762 (by decide) ?_
    exact hB2847 rec23 hrec23 _ _ _ _ _ _ _ _ _ _ _ _ hp hM hS hB (lv_sub hl [0, 1, 2, 3, 4] rfl)
  have hB2844 : ∀ (rec23 : Nat → Nat → Nat → Nat → Int32 → wM → Nat → Prop) (hrec23 : ∀ (x0 : Nat) (x1 : Nat) (x2 : Nat) (x3 : Nat) (x4 : Int32) (M : wM) (bq : Nat) (H : Heap) (locs : List Loc) (ls : Array Slot) (cells slots : Nat), rec23 x0 x1 x2 x3 x4 M bq → wR G M H → va_S (wA G) s.heap H locs → (cells + bq ≤ (room_1).cells ∧ slots + bq ≤ (room_1).slots) → lv_has ls 9 [(0, .ref x0), (1, .ref x1), (2, .ref x2), (3, .ref x3), (4, .int x4)] → W p l e room_1 s m ([.ref p1] : List Value).toArray below meth c H locs cells slots (lw_Z below ([.ref p1] : List Value).toArray s) (F0 m 23 ls [])), ∀ (x0 : Nat) (x1 : Nat) (x2 : Nat) (x3 : Nat) (x4 : Int32) (M : wM) (bq : Nat) (H : Heap) (locs : List Loc) (ls : Array Slot) (cells slots : Nat), B_L_law_2844 G rec23 Q x0 x1 x2 x3 x4 M bq → wR G M H → va_S (wA G) s.heap H locs → (cells + bq ≤ (room_1).cells ∧ slots + bq ≤ (room_1).slots) → lv_has ls 9 [(0, .ref x0), (1, .ref x1), (2, .ref x2), (3, .ref x3), (4, .int x4)] → W p l e room_1 s m ([.ref p1] : List Value).toArray below meth c H locs cells slots (lw_Z below ([.ref p1] : List Value).toArray s) (F0 m 2844 ls []) := by
    intro rec23 hrec23 x0 x1 x2 x3 x4 M bq H locs ls cells slots hp hM hS hB hl
    refine lv_goto (tgt := 2847) hx hb dL_law_2844 (by decide) ?_
    exact hB2847 rec23 hrec23 _ _ _ _ _ _ _ _ _ _ _ _ hp hM hS hB (lv_sub hl [0, 1, 2, 3, 4] rfl)
  have hB23 : ∀ (rec23 : Nat → Nat → Nat → Nat → Int32 → wM → Nat → Prop) (hrec23 : ∀ (x0 : Nat) (x1 : Nat) (x2 : Nat) (x3 : Nat) (x4 : Int32) (M : wM) (bq : Nat) (H : Heap) (locs : List Loc) (ls : Array Slot) (cells slots : Nat), rec23 x0 x1 x2 x3 x4 M bq → wR G M H → va_S (wA G) s.heap H locs → (cells + bq ≤ (room_1).cells ∧ slots + bq ≤ (room_1).slots) → lv_has ls 9 [(0, .ref x0), (1, .ref x1), (2, .ref x2), (3, .ref x3), (4, .int x4)] → W p l e room_1 s m ([.ref p1] : List Value).toArray below meth c H locs cells slots (lw_Z below ([.ref p1] : List Value).toArray s) (F0 m 23 ls [])), ∀ (x0 : Nat) (x1 : Nat) (x2 : Nat) (x3 : Nat) (x4 : Int32) (M : wM) (bq : Nat) (H : Heap) (locs : List Loc) (ls : Array Slot) (cells slots : Nat), B_L_law_23 G rec23 Q x0 x1 x2 x3 x4 M bq → wR G M H → va_S (wA G) s.heap H locs → (cells + bq ≤ (room_1).cells ∧ slots + bq ≤ (room_1).slots) → lv_has ls 9 [(0, .ref x0), (1, .ref x1), (2, .ref x2), (3, .ref x3), (4, .int x4)] → W p l e room_1 s m ([.ref p1] : List Value).toArray below meth c H locs cells slots (lw_Z below ([.ref p1] : List Value).toArray s) (F0 m 23 ls []) := by
    intro rec23 hrec23 x0 x1 x2 x3 x4 M bq H locs ls cells slots hp hM hS hB hl
    refine lv_iload hx hb dL_law_23 (lv_at hl 4 rfl) ?_
    refine lv_aload_n hx hb dL_law_25 rfl (lv_at hl 0 rfl) ?_
    refine x_alen X hC.1 hM (ty := .int) (by decide) dL_law_26 hp (fun v1 hp => ?_)
    refine lv_bipush (v := 6) hx hb dL_law_27 (by decide) ?_
    refine lv_isub hx hb dL_law_29 ?_
    refine lv_icmp_gt (tgt := 2853) hx hb dL_law_30 (by decide) (fun hc => ?_) (fun hc => ?_)
    · have hp := oIf.t hp hc
      refine lv_iconst (v := 1) hx hb dL_law_2853 (by decide) ?_
      exact w_lawret hx hb hr hlk hzz hS (w_fin hB) dL_law_2854
    · have hp := oIf.f hp hc
      refine lv_aload_n hx hb dL_law_33 rfl (lv_at hl 0 rfl) ?_
      refine lv_iload hx hb dL_law_34 (lv_at hl 4 rfl) ?_
      refine x_iald X hC.1 hM dL_law_36 hp (fun v2 hp => ?_)
      refine lv_bipush (v := 63) hx hb dL_law_37 (by decide) ?_
      refine lv_iand hx hb dL_law_39 ?_
      by_cases hc0 : (v2 &&& (63 : Int32)) = (0 : Int32)
      · have hp := oIf.t hp hc0
        refine lv_tableIn (off := 208) (tgt := 248) hx hb dL_law_40 (by rw [hc0]; decide) (by rw [hc0]; decide) (by rw [hc0]; rfl) (by decide) ?_
        refine lv_aload_n hx hb dL_law_248 rfl (lv_at hl 1 rfl) ?_
        refine lv_aload_n hx hb dL_law_249 rfl (lv_at hl 0 rfl) ?_
        refine lv_iload hx hb dL_law_250 (lv_at hl 4 rfl) ?_
        refine lv_iconst (v := 1) hx hb dL_law_252 (by decide) ?_
        refine lv_iadd hx hb dL_law_253 ?_
        refine x_iald X hC.1 hM dL_law_254 hp (fun v3 hp => ?_)
        refine lv_aload_n hx hb dL_law_255 rfl (lv_at hl 0 rfl) ?_
        refine lv_iload hx hb dL_law_256 (lv_at hl 4 rfl) ?_
        refine lv_iconst (v := 2) hx hb dL_law_258 (by decide) ?_
        refine lv_iadd hx hb dL_law_259 ?_
        refine x_iald X hC.1 hM dL_law_260 hp (fun v4 hp => ?_)
        refine lv_aload_n hx hb dL_law_261 rfl (lv_at hl 0 rfl) ?_
        refine lv_iload hx hb dL_law_262 (lv_at hl 4 rfl) ?_
        refine lv_iconst (v := 3) hx hb dL_law_264 (by decide) ?_
        refine lv_iadd hx hb dL_law_265 ?_
        refine x_iald X hC.1 hM dL_law_266 hp (fun v5 hp => ?_)
        refine lv_aload_n hx hb dL_law_267 rfl (lv_at hl 0 rfl) ?_
        refine lv_iload hx hb dL_law_268 (lv_at hl 4 rfl) ?_
        refine lv_iconst (v := 4) hx hb dL_law_270 (by decide) ?_
        refine lv_iadd hx hb dL_law_271 ?_
        refine x_iald X hC.1 hM dL_law_272 hp (fun v6 hp => ?_)
        refine lv_aload_n hx hb dL_law_273 rfl (lv_at hl 0 rfl) ?_
        refine lv_iload hx hb dL_law_274 (lv_at hl 4 rfl) ?_
        refine lv_iconst (v := 5) hx hb dL_law_276 (by decide) ?_
        refine lv_iadd hx hb dL_law_277 ?_
        refine x_iald X hC.1 hM dL_law_278 hp (fun v7 hp => ?_)
        obtain ⟨hrec, hp⟩ := hp
        refine x_call0I (vx_runV (As := [.int v3, .int v4, .int v5, .int v6, .int v7]) (rest := []) X (P_X1_feed_ok (l := l) hl0 hp) (cwV 5 hts (lw_V q1000 q1001 q1002 q148 q1003) rfl rfl rfl (by decide +kernel) ⟨Nat.le_of_ble_eq_true rfl, Nat.le_of_ble_eq_true rfl⟩) ⟨wPc.blind, w_recv hC.1 hM (ci := 0) (q := (RX1, TX1, 8)) rfl hrec, w_pre hC hM hS _⟩ rfl rfl hl.1 rfl (lv_room (Nat.le_of_ble_eq_true rfl)) dL_law_279 (w_room0 hB)) hS (w_room0 hB) (fun _ _ _ _ _ _ h => False.elim h) (fun v10 M8 H locs hp hM hS => ?_)
        refine lv_aload_n hx hb dL_law_282 rfl (lv_at hl 2 rfl) ?_
        refine lv_aload_n hx hb dL_law_283 rfl (lv_at hl 0 rfl) ?_
        refine lv_iload hx hb dL_law_284 (lv_at hl 4 rfl) ?_
        refine lv_iconst (v := 1) hx hb dL_law_286 (by decide) ?_
        refine lv_iadd hx hb dL_law_287 ?_
        refine x_iald X hC.1 hM dL_law_288 hp (fun v11 hp => ?_)
        refine lv_aload_n hx hb dL_law_289 rfl (lv_at hl 0 rfl) ?_
        refine lv_iload hx hb dL_law_290 (lv_at hl 4 rfl) ?_
        refine lv_iconst (v := 2) hx hb dL_law_292 (by decide) ?_
        refine lv_iadd hx hb dL_law_293 ?_
        refine x_iald X hC.1 hM dL_law_294 hp (fun v12 hp => ?_)
        refine lv_aload_n hx hb dL_law_295 rfl (lv_at hl 0 rfl) ?_
        refine lv_iload hx hb dL_law_296 (lv_at hl 4 rfl) ?_
        refine lv_iconst (v := 3) hx hb dL_law_298 (by decide) ?_
        refine lv_iadd hx hb dL_law_299 ?_
        refine x_iald X hC.1 hM dL_law_300 hp (fun v13 hp => ?_)
        refine lv_aload_n hx hb dL_law_301 rfl (lv_at hl 0 rfl) ?_
        refine lv_iload hx hb dL_law_302 (lv_at hl 4 rfl) ?_
        refine lv_iconst (v := 4) hx hb dL_law_304 (by decide) ?_
        refine lv_iadd hx hb dL_law_305 ?_
        refine x_iald X hC.1 hM dL_law_306 hp (fun v14 hp => ?_)
        refine lv_aload_n hx hb dL_law_307 rfl (lv_at hl 0 rfl) ?_
        refine lv_iload hx hb dL_law_308 (lv_at hl 4 rfl) ?_
        refine lv_iconst (v := 5) hx hb dL_law_310 (by decide) ?_
        refine lv_iadd hx hb dL_law_311 ?_
        refine x_iald X hC.1 hM dL_law_312 hp (fun v15 hp => ?_)
        obtain ⟨hrec, hp⟩ := hp
        refine x_call0I (vx_runV (As := [.int v11, .int v12, .int v13, .int v14, .int v15]) (rest := [.int v10]) X (P_X4_feed_ok (l := l) hl0 hp) (cwV 5 hts (lw_V q3638 q3639 q3640 q178 q3641) rfl rfl rfl (by decide +kernel) ⟨Nat.le_of_ble_eq_true rfl, Nat.le_of_ble_eq_true rfl⟩) ⟨wPc.blind, w_recv hC.1 hM (ci := 3) (q := (RX4, TX4, 28)) rfl hrec, w_pre hC hM hS _⟩ rfl rfl hl.1 rfl (lv_room (Nat.le_of_ble_eq_true rfl)) dL_law_313 (w_room0 hB)) hS (w_room0 hB) (fun _ _ _ _ _ _ h => False.elim h) (fun v18 M16 H locs hp hM hS => ?_)
        refine lv_icmp_eq (tgt := 2847) hx hb dL_law_316 (by decide) (fun hc => ?_) (fun hc => ?_)
        · have hp := oIf.t hp hc
          exact hB2847 rec23 hrec23 _ _ _ _ _ _ _ _ _ _ _ _ hp hM hS hB (lv_sub hl [0, 1, 2, 3, 4] rfl)
        · have hp := oIf.f hp hc
          exact hp.elim
      · have hp := oIf.f hp hc0
        by_cases hc1 : (v2 &&& (63 : Int32)) = (1 : Int32)
        · have hp := oIf.t hp hc1
          refine lv_tableIn (off := 281) (tgt := 321) hx hb dL_law_40 (by rw [hc1]; decide) (by rw [hc1]; decide) (by rw [hc1]; rfl) (by decide) ?_
          refine lv_aload_n hx hb dL_law_321 rfl (lv_at hl 1 rfl) ?_
          refine lv_aload_n hx hb dL_law_322 rfl (lv_at hl 0 rfl) ?_
          refine lv_iload hx hb dL_law_323 (lv_at hl 4 rfl) ?_
          refine lv_iconst (v := 1) hx hb dL_law_325 (by decide) ?_
          refine lv_iadd hx hb dL_law_326 ?_
          refine x_iald X hC.1 hM dL_law_327 hp (fun v19 hp => ?_)
          obtain ⟨hrec, hp⟩ := hp
          refine x_call0Z (vx_runV (As := [.int v19]) (rest := []) X (P_X1_truncate_ok (l := l) hl0 hp) (cwV 1 hts (lw_V q1008 q1009 q1010 q148 q1011) rfl rfl rfl (by decide +kernel) ⟨Nat.le_of_ble_eq_true rfl, Nat.le_of_ble_eq_true rfl⟩) ⟨wPc.blind, w_recv hC.1 hM (ci := 0) (q := (RX1, TX1, 8)) rfl hrec, w_pre hC hM hS _⟩ rfl rfl hl.1 rfl (lv_room (Nat.le_of_ble_eq_true rfl)) dL_law_328 (w_room0 hB)) hS (w_room0 hB) (fun _ _ _ _ _ _ h => False.elim h) (fun r22 M20 H locs hp hM hS => ?_)
          refine lv_aload_n hx hb dL_law_331 rfl (lv_at hl 2 rfl) ?_
          refine lv_aload_n hx hb dL_law_332 rfl (lv_at hl 0 rfl) ?_
          refine lv_iload hx hb dL_law_333 (lv_at hl 4 rfl) ?_
          refine lv_iconst (v := 1) hx hb dL_law_335 (by decide) ?_
          refine lv_iadd hx hb dL_law_336 ?_
          refine x_iald X hC.1 hM dL_law_337 hp (fun v23 hp => ?_)
          obtain ⟨hrec, hp⟩ := hp
          refine x_call0Z (vx_runV (As := [.int v23]) (rest := [.int (wb r22)]) X (P_X4_truncate_ok (l := l) hl0 hp) (cwV 1 hts (lw_V q3642 q3643 q3644 q178 q3645) rfl rfl rfl (by decide +kernel) ⟨Nat.le_of_ble_eq_true rfl, Nat.le_of_ble_eq_true rfl⟩) ⟨wPc.blind, w_recv hC.1 hM (ci := 3) (q := (RX4, TX4, 28)) rfl hrec, w_pre hC hM hS _⟩ rfl rfl hl.1 rfl (lv_room (Nat.le_of_ble_eq_true rfl)) dL_law_338 (w_room0 hB)) hS (w_room0 hB) (fun _ _ _ _ _ _ h => False.elim h) (fun r26 M24 H locs hp hM hS => ?_)
          refine lv_icmp_eq (tgt := 2847) hx hb dL_law_341 (by decide) (fun hc => ?_) (fun hc => ?_)
          · have hp := oIf.t hp hc
            exact hB2847 rec23 hrec23 _ _ _ _ _ _ _ _ _ _ _ _ hp hM hS hB (lv_sub hl [0, 1, 2, 3, 4] rfl)
          · have hp := oIf.f hp hc
            exact hp.elim
        · have hp := oIf.f hp hc1
          by_cases hc2 : (v2 &&& (63 : Int32)) = (2 : Int32)
          · have hp := oIf.t hp hc2
            refine lv_tableIn (off := 306) (tgt := 346) hx hb dL_law_40 (by rw [hc2]; decide) (by rw [hc2]; decide) (by rw [hc2]; rfl) (by decide) ?_
            refine lv_aload_n hx hb dL_law_346 rfl (lv_at hl 1 rfl) ?_
            obtain ⟨hrec, hp⟩ := hp
            obtain ⟨c28, hc1, hp⟩ := hp
            refine x_callI (vx_runVX (As := []) (rest := []) X (P_X1_parse_ok (l := l) hl0 hp) (vx_cwVW 0 hts (lw_VW q1015 q1016 q1017 q148 q1018) rfl rfl rfl (by decide +kernel) ⟨Nat.le_of_ble_eq_true rfl, Nat.le_of_ble_eq_true rfl⟩) ⟨wPc.blind, w_recv hC.1 hM (ci := 0) (q := (RX1, TX1, 8)) rfl hrec, w_pre hC hM hS _⟩ rfl rfl hl.1 rfl (lv_room (Nat.le_of_ble_eq_true rfl)) dL_law_347 (w_room hB hc1)) hS hB hc1 (fun _ _ _ _ _ _ h => False.elim h) (fun v29 M27 H locs hp hM hS hB => ?_)
            refine lv_aload_n hx hb dL_law_350 rfl (lv_at hl 2 rfl) ?_
            obtain ⟨hrec, hp⟩ := hp
            refine x_call0I (vx_runV (As := []) (rest := [.int v29]) X (P_X4_parse_ok (l := l) hl0 hp) (cwV 0 hts (lw_V q3646 q3647 q3648 q178 q3649) rfl rfl rfl (by decide +kernel) ⟨Nat.le_of_ble_eq_true rfl, Nat.le_of_ble_eq_true rfl⟩) ⟨wPc.blind, w_recv hC.1 hM (ci := 3) (q := (RX4, TX4, 28)) rfl hrec, w_pre hC hM hS _⟩ rfl rfl hl.1 rfl (lv_room (Nat.le_of_ble_eq_true rfl)) dL_law_351 (w_room0 hB)) hS (w_room0 hB) (fun _ _ _ _ _ _ h => False.elim h) (fun v32 M30 H locs hp hM hS => ?_)
            refine lv_icmp_eq (tgt := 2847) hx hb dL_law_354 (by decide) (fun hc => ?_) (fun hc => ?_)
            · have hp := oIf.t hp hc
              exact hB2847 rec23 hrec23 _ _ _ _ _ _ _ _ _ _ _ _ hp hM hS hB (lv_sub hl [0, 1, 2, 3, 4] rfl)
            · have hp := oIf.f hp hc
              exact hp.elim
          · have hp := oIf.f hp hc2
            by_cases hc3 : (v2 &&& (63 : Int32)) = (3 : Int32)
            · have hp := oIf.t hp hc3
              refine lv_tableIn (off := 319) (tgt := 359) hx hb dL_law_40 (by rw [hc3]; decide) (by rw [hc3]; decide) (by rw [hc3]; rfl) (by decide) ?_
              refine lv_aload_n hx hb dL_law_359 rfl (lv_at hl 1 rfl) ?_
              obtain ⟨hrec, hp⟩ := hp
              refine x_call0I (vx_runV (As := []) (rest := []) X (P_X1_errorCode_ok (l := l) hl0 hp) (cwV 0 hts (lw_V q1541 q1542 q1543 q148 q1544) rfl rfl rfl (by decide +kernel) ⟨Nat.le_of_ble_eq_true rfl, Nat.le_of_ble_eq_true rfl⟩) ⟨wPc.blind, w_recv hC.1 hM (ci := 0) (q := (RX1, TX1, 8)) rfl hrec, w_pre hC hM hS _⟩ rfl rfl hl.1 rfl (lv_room (Nat.le_of_ble_eq_true rfl)) dL_law_360 (w_room0 hB)) hS (w_room0 hB) (fun _ _ _ _ _ _ h => False.elim h) (fun v35 M33 H locs hp hM hS => ?_)
              refine lv_aload_n hx hb dL_law_363 rfl (lv_at hl 2 rfl) ?_
              obtain ⟨hrec, hp⟩ := hp
              refine x_call0I (vx_runV (As := []) (rest := [.int v35]) X (P_X4_errorCode_ok (l := l) hl0 hp) (cwV 0 hts (lw_V q3768 q3769 q3770 q178 q3771) rfl rfl rfl (by decide +kernel) ⟨Nat.le_of_ble_eq_true rfl, Nat.le_of_ble_eq_true rfl⟩) ⟨wPc.blind, w_recv hC.1 hM (ci := 3) (q := (RX4, TX4, 28)) rfl hrec, w_pre hC hM hS _⟩ rfl rfl hl.1 rfl (lv_room (Nat.le_of_ble_eq_true rfl)) dL_law_364 (w_room0 hB)) hS (w_room0 hB) (fun _ _ _ _ _ _ h => False.elim h) (fun v38 M36 H locs hp hM hS => ?_)
              refine lv_icmp_eq (tgt := 2847) hx hb dL_law_367 (by decide) (fun hc => ?_) (fun hc => ?_)
              · have hp := oIf.t hp hc
                exact hB2847 rec23 hrec23 _ _ _ _ _ _ _ _ _ _ _ _ hp hM hS hB (lv_sub hl [0, 1, 2, 3, 4] rfl)
              · have hp := oIf.f hp hc
                exact hp.elim
            · have hp := oIf.f hp hc3
              by_cases hc4 : (v2 &&& (63 : Int32)) = (4 : Int32)
              · have hp := oIf.t hp hc4
                refine lv_tableIn (off := 332) (tgt := 372) hx hb dL_law_40 (by rw [hc4]; decide) (by rw [hc4]; decide) (by rw [hc4]; rfl) (by decide) ?_
                refine lv_aload_n hx hb dL_law_372 rfl (lv_at hl 1 rfl) ?_
                obtain ⟨hrec, hp⟩ := hp
                refine x_call0I (vx_runV (As := []) (rest := []) X (P_X1_errorOffset_ok (l := l) hl0 hp) (cwV 0 hts (lw_V q1545 q1546 q1547 q148 q1548) rfl rfl rfl (by decide +kernel) ⟨Nat.le_of_ble_eq_true rfl, Nat.le_of_ble_eq_true rfl⟩) ⟨wPc.blind, w_recv hC.1 hM (ci := 0) (q := (RX1, TX1, 8)) rfl hrec, w_pre hC hM hS _⟩ rfl rfl hl.1 rfl (lv_room (Nat.le_of_ble_eq_true rfl)) dL_law_373 (w_room0 hB)) hS (w_room0 hB) (fun _ _ _ _ _ _ h => False.elim h) (fun v41 M39 H locs hp hM hS => ?_)
                refine lv_aload_n hx hb dL_law_376 rfl (lv_at hl 2 rfl) ?_
                obtain ⟨hrec, hp⟩ := hp
                refine x_call0I (vx_runV (As := []) (rest := [.int v41]) X (P_X4_errorOffset_ok (l := l) hl0 hp) (cwV 0 hts (lw_V q3772 q3773 q3774 q178 q3775) rfl rfl rfl (by decide +kernel) ⟨Nat.le_of_ble_eq_true rfl, Nat.le_of_ble_eq_true rfl⟩) ⟨wPc.blind, w_recv hC.1 hM (ci := 3) (q := (RX4, TX4, 28)) rfl hrec, w_pre hC hM hS _⟩ rfl rfl hl.1 rfl (lv_room (Nat.le_of_ble_eq_true rfl)) dL_law_377 (w_room0 hB)) hS (w_room0 hB) (fun _ _ _ _ _ _ h => False.elim h) (fun v44 M42 H locs hp hM hS => ?_)
                refine lv_icmp_eq (tgt := 2847) hx hb dL_law_380 (by decide) (fun hc => ?_) (fun hc => ?_)
                · have hp := oIf.t hp hc
                  exact hB2847 rec23 hrec23 _ _ _ _ _ _ _ _ _ _ _ _ hp hM hS hB (lv_sub hl [0, 1, 2, 3, 4] rfl)
                · have hp := oIf.f hp hc
                  exact hp.elim
              · have hp := oIf.f hp hc4
                by_cases hc5 : (v2 &&& (63 : Int32)) = (5 : Int32)
                · have hp := oIf.t hp hc5
                  refine lv_tableIn (off := 345) (tgt := 385) hx hb dL_law_40 (by rw [hc5]; decide) (by rw [hc5]; decide) (by rw [hc5]; rfl) (by decide) ?_
                  refine lv_aload_n hx hb dL_law_385 rfl (lv_at hl 1 rfl) ?_
                  refine lv_aload_n hx hb dL_law_386 rfl (lv_at hl 0 rfl) ?_
                  refine lv_iload hx hb dL_law_387 (lv_at hl 4 rfl) ?_
                  refine lv_iconst (v := 1) hx hb dL_law_389 (by decide) ?_
                  refine lv_iadd hx hb dL_law_390 ?_
                  refine x_iald X hC.1 hM dL_law_391 hp (fun v45 hp => ?_)
                  obtain ⟨hrec, hp⟩ := hp
                  refine x_call0I (vx_runV (As := [.int v45]) (rest := []) X (P_X1_count_ok (l := l) hl0 hp) (cwV 1 hts (lw_V q1549 q1550 q1551 q148 q1552) rfl rfl rfl (by decide +kernel) ⟨Nat.le_of_ble_eq_true rfl, Nat.le_of_ble_eq_true rfl⟩) ⟨wPc.blind, w_recv hC.1 hM (ci := 0) (q := (RX1, TX1, 8)) rfl hrec, w_pre hC hM hS _⟩ rfl rfl hl.1 rfl (lv_room (Nat.le_of_ble_eq_true rfl)) dL_law_392 (w_room0 hB)) hS (w_room0 hB) (fun _ _ _ _ _ _ h => False.elim h) (fun v48 M46 H locs hp hM hS => ?_)
                  refine lv_aload_n hx hb dL_law_395 rfl (lv_at hl 2 rfl) ?_
                  refine lv_aload_n hx hb dL_law_396 rfl (lv_at hl 0 rfl) ?_
                  refine lv_iload hx hb dL_law_397 (lv_at hl 4 rfl) ?_
                  refine lv_iconst (v := 1) hx hb dL_law_399 (by decide) ?_
                  refine lv_iadd hx hb dL_law_400 ?_
                  refine x_iald X hC.1 hM dL_law_401 hp (fun v49 hp => ?_)
                  obtain ⟨hrec, hp⟩ := hp
                  refine x_call0I (vx_runV (As := [.int v49]) (rest := [.int v48]) X (P_X4_count_ok (l := l) hl0 hp) (cwV 1 hts (lw_V q3588 q3589 q3590 q178 q3591) rfl rfl rfl (by decide +kernel) ⟨Nat.le_of_ble_eq_true rfl, Nat.le_of_ble_eq_true rfl⟩) ⟨wPc.blind, w_recv hC.1 hM (ci := 3) (q := (RX4, TX4, 28)) rfl hrec, w_pre hC hM hS _⟩ rfl rfl hl.1 rfl (lv_room (Nat.le_of_ble_eq_true rfl)) dL_law_402 (w_room0 hB)) hS (w_room0 hB) (fun _ _ _ _ _ _ h => False.elim h) (fun v52 M50 H locs hp hM hS => ?_)
                  refine lv_icmp_eq (tgt := 2847) hx hb dL_law_405 (by decide) (fun hc => ?_) (fun hc => ?_)
                  · have hp := oIf.t hp hc
                    exact hB2847 rec23 hrec23 _ _ _ _ _ _ _ _ _ _ _ _ hp hM hS hB (lv_sub hl [0, 1, 2, 3, 4] rfl)
                  · have hp := oIf.f hp hc
                    exact hp.elim
                · have hp := oIf.f hp hc5
                  by_cases hc6 : (v2 &&& (63 : Int32)) = (6 : Int32)
                  · have hp := oIf.t hp hc6
                    refine lv_tableIn (off := 370) (tgt := 410) hx hb dL_law_40 (by rw [hc6]; decide) (by rw [hc6]; decide) (by rw [hc6]; rfl) (by decide) ?_
                    refine lv_aload_n hx hb dL_law_410 rfl (lv_at hl 1 rfl) ?_
                    refine lv_aload_n hx hb dL_law_411 rfl (lv_at hl 0 rfl) ?_
                    refine lv_iload hx hb dL_law_412 (lv_at hl 4 rfl) ?_
                    refine lv_iconst (v := 1) hx hb dL_law_414 (by decide) ?_
                    refine lv_iadd hx hb dL_law_415 ?_
                    refine x_iald X hC.1 hM dL_law_416 hp (fun v53 hp => ?_)
                    refine lv_aload_n hx hb dL_law_417 rfl (lv_at hl 0 rfl) ?_
                    refine lv_iload hx hb dL_law_418 (lv_at hl 4 rfl) ?_
                    refine lv_iconst (v := 2) hx hb dL_law_420 (by decide) ?_
                    refine lv_iadd hx hb dL_law_421 ?_
                    refine x_iald X hC.1 hM dL_law_422 hp (fun v54 hp => ?_)
                    refine lv_aload_n hx hb dL_law_423 rfl (lv_at hl 3 rfl) ?_
                    obtain ⟨c56, hc1, hp⟩ := hp
                    refine x_callI (vx_runSX (As := [.ref x1, .int v53, .int v54, .ref x3]) (rest := []) X (P_X0_zone_ok (l := l) hl0 hp) (vx_cwSW 4 hts (lw_SW q2173 q2174 q147 q2175) rfl rfl rfl (by decide +kernel) ⟨Nat.le_of_ble_eq_true rfl, Nat.le_of_ble_eq_true rfl⟩) ⟨wPc.blind, w_pre hC hM hS _⟩ rfl rfl hl.1 rfl (lv_room (Nat.le_of_ble_eq_true rfl)) dL_law_424 (w_room hB hc1)) hS hB hc1 (fun _ _ _ _ _ _ h => False.elim h) (fun v57 M55 H locs hp hM hS hB => ?_)
                    refine lv_istore (lv' := [(5, .int v57), (0, .ref x0), (1, .ref x1), (2, .ref x2), (3, .ref x3), (4, .int x4)]) hx hb dL_law_427 hl (by decide) rfl (fun ls hl => ?_)
                    refine lv_aload_n hx hb dL_law_429 rfl (lv_at hl 3 rfl) ?_
                    refine lv_aload_n hx hb dL_law_430 rfl (lv_at hl 1 rfl) ?_
                    refine lv_iload hx hb dL_law_431 (lv_at hl 5 rfl) ?_
                    refine lv_iconst (v := 1) hx hb dL_law_433 (by decide) ?_
                    refine lv_iadd hx hb dL_law_434 ?_
                    refine x_iald X hC.1 hM dL_law_435 hp (fun v58 hp => ?_)
                    refine lv_aload_n hx hb dL_law_436 rfl (lv_at hl 1 rfl) ?_
                    refine lv_iload hx hb dL_law_437 (lv_at hl 5 rfl) ?_
                    refine lv_iconst (v := 2) hx hb dL_law_439 (by decide) ?_
                    refine lv_iadd hx hb dL_law_440 ?_
                    refine x_iald X hC.1 hM dL_law_441 hp (fun v59 hp => ?_)
                    obtain ⟨hrec, hp⟩ := hp
                    refine x_call0I (vx_runV (As := [.int v58, .int v59]) (rest := []) X (P_X4_zone_ok (l := l) hl0 hp) (cwV 2 hts (lw_V q3592 q3593 q3594 q178 q3595) rfl rfl rfl (by decide +kernel) ⟨Nat.le_of_ble_eq_true rfl, Nat.le_of_ble_eq_true rfl⟩) ⟨wPc.blind, w_recv hC.1 hM (ci := 3) (q := (RX4, TX4, 28)) rfl hrec, w_pre hC hM hS _⟩ rfl rfl hl.1 rfl (lv_room (Nat.le_of_ble_eq_true rfl)) dL_law_442 (w_room0 hB)) hS (w_room0 hB) (fun _ _ _ _ _ _ h => False.elim h) (fun v62 M60 H locs hp hM hS => ?_)
                    refine lv_istore (lv' := [(6, .int v62), (5, .int v57), (0, .ref x0), (1, .ref x1), (2, .ref x2), (3, .ref x3), (4, .int x4)]) hx hb dL_law_445 hl (by decide) rfl (fun ls hl => ?_)
                    refine lv_aload_n hx hb dL_law_447 rfl (lv_at hl 4 rfl) ?_
                    obtain ⟨hrec, hp⟩ := hp
                    refine x_call0I (vx_runV (As := []) (rest := []) X (P_X4_thrown_ok (l := l) hl0 hp) (cwV 0 hts (lw_V q3227 q3228 q3229 q178 q3230) rfl rfl rfl (by decide +kernel) ⟨Nat.le_of_ble_eq_true rfl, Nat.le_of_ble_eq_true rfl⟩) ⟨wPc.blind, w_recv hC.1 hM (ci := 3) (q := (RX4, TX4, 28)) rfl hrec, w_pre hC hM hS _⟩ rfl rfl hl.1 rfl (lv_room (Nat.le_of_ble_eq_true rfl)) dL_law_448 (w_room0 hB)) hS (w_room0 hB) (fun _ _ _ _ _ _ h => False.elim h) (fun v65 M63 H locs hp hM hS => ?_)
                    refine lv_iload hx hb dL_law_451 (lv_at hl 1 rfl) ?_
                    refine lv_icmp_eq (tgt := 458) hx hb dL_law_453 (by decide) (fun hc => ?_) (fun hc => ?_)
                    · have hp := oIf.t hp hc
                      refine lv_iload hx hb dL_law_458 (lv_at hl 1 rfl) ?_
                      refine lv_if_ne (tgt := 475) hx hb dL_law_460 (by decide) (fun hc => ?_) (fun hc => ?_)
                      · have hp := oIf.f hp hc
                        exact hB475 rec23 hrec23 _ _ _ _ _ _ _ _ _ _ _ _ hp hM hS hB (lv_sub hl [2, 3, 4, 5, 6] rfl)
                      · have hp := oIf.t hp hc
                        refine lv_aload_n hx hb dL_law_463 rfl (lv_at hl 5 rfl) ?_
                        refine lv_iconst (v := 0) hx hb dL_law_464 (by decide) ?_
                        refine x_lald X hC.1 hM dL_law_465 hp (fun v66 hp => ?_)
                        refine lv_iload hx hb dL_law_466 (lv_at hl 0 rfl) ?_
                        refine lv_i2l (v := v62.toInt64) hx hb dL_law_468 rfl ?_
                        refine W.lcmp hx hb dL_law_469 ?_
                        refine lv_if_eq (tgt := 475) hx hb dL_law_470 (by decide) (fun hc => ?_) (fun hc => ?_)
                        · have hp := oIf.t hp hc
                          exact hB475 rec23 hrec23 _ _ _ _ _ _ _ _ _ _ _ _ hp hM hS hB (lv_sub hl [2, 3, 4, 5, 6] rfl)
                        · have hp := oIf.f hp hc
                          exact hp.elim
                    · have hp := oIf.f hp hc
                      exact hp.elim
                  · have hp := oIf.f hp hc6
                    by_cases hc7 : (v2 &&& (63 : Int32)) = (7 : Int32)
                    · have hp := oIf.t hp hc7
                      refine lv_tableIn (off := 438) (tgt := 478) hx hb dL_law_40 (by rw [hc7]; decide) (by rw [hc7]; decide) (by rw [hc7]; rfl) (by decide) ?_
                      refine lv_aload_n hx hb dL_law_478 rfl (lv_at hl 1 rfl) ?_
                      refine lv_aload_n hx hb dL_law_479 rfl (lv_at hl 0 rfl) ?_
                      refine lv_iload hx hb dL_law_480 (lv_at hl 4 rfl) ?_
                      refine lv_iconst (v := 1) hx hb dL_law_482 (by decide) ?_
                      refine lv_iadd hx hb dL_law_483 ?_
                      refine x_iald X hC.1 hM dL_law_484 hp (fun v67 hp => ?_)
                      refine lv_aload_n hx hb dL_law_485 rfl (lv_at hl 0 rfl) ?_
                      refine lv_iload hx hb dL_law_486 (lv_at hl 4 rfl) ?_
                      refine lv_iconst (v := 2) hx hb dL_law_488 (by decide) ?_
                      refine lv_iadd hx hb dL_law_489 ?_
                      refine x_iald X hC.1 hM dL_law_490 hp (fun v68 hp => ?_)
                      refine lv_aload_n hx hb dL_law_491 rfl (lv_at hl 3 rfl) ?_
                      obtain ⟨c70, hc1, hp⟩ := hp
                      refine x_callI (vx_runSX (As := [.ref x1, .int v67, .int v68, .ref x3]) (rest := []) X (P_X0_street_ok (l := l) hl0 hp) (vx_cwSW 4 hts (lw_SW q2218 q2219 q147 q2220) rfl rfl rfl (by decide +kernel) ⟨Nat.le_of_ble_eq_true rfl, Nat.le_of_ble_eq_true rfl⟩) ⟨wPc.blind, w_pre hC hM hS _⟩ rfl rfl hl.1 rfl (lv_room (Nat.le_of_ble_eq_true rfl)) dL_law_492 (w_room hB hc1)) hS hB hc1 (fun _ _ _ _ _ _ h => False.elim h) (fun v71 M69 H locs hp hM hS hB => ?_)
                      refine lv_istore (lv' := [(5, .int v71), (0, .ref x0), (1, .ref x1), (2, .ref x2), (3, .ref x3), (4, .int x4)]) hx hb dL_law_495 hl (by decide) rfl (fun ls hl => ?_)
                      refine lv_aload_n hx hb dL_law_497 rfl (lv_at hl 3 rfl) ?_
                      refine lv_aload_n hx hb dL_law_498 rfl (lv_at hl 1 rfl) ?_
                      refine lv_iload hx hb dL_law_499 (lv_at hl 5 rfl) ?_
                      refine lv_iconst (v := 1) hx hb dL_law_501 (by decide) ?_
                      refine lv_iadd hx hb dL_law_502 ?_
                      refine x_iald X hC.1 hM dL_law_503 hp (fun v72 hp => ?_)
                      refine lv_aload_n hx hb dL_law_504 rfl (lv_at hl 1 rfl) ?_
                      refine lv_iload hx hb dL_law_505 (lv_at hl 5 rfl) ?_
                      refine lv_iconst (v := 2) hx hb dL_law_507 (by decide) ?_
                      refine lv_iadd hx hb dL_law_508 ?_
                      refine x_iald X hC.1 hM dL_law_509 hp (fun v73 hp => ?_)
                      obtain ⟨hrec, hp⟩ := hp
                      refine x_call0I (vx_runV (As := [.int v72, .int v73]) (rest := []) X (P_X4_street_ok (l := l) hl0 hp) (cwV 2 hts (lw_V q3600 q3601 q3602 q178 q3603) rfl rfl rfl (by decide +kernel) ⟨Nat.le_of_ble_eq_true rfl, Nat.le_of_ble_eq_true rfl⟩) ⟨wPc.blind, w_recv hC.1 hM (ci := 3) (q := (RX4, TX4, 28)) rfl hrec, w_pre hC hM hS _⟩ rfl rfl hl.1 rfl (lv_room (Nat.le_of_ble_eq_true rfl)) dL_law_510 (w_room0 hB)) hS (w_room0 hB) (fun _ _ _ _ _ _ h => False.elim h) (fun v76 M74 H locs hp hM hS => ?_)
                      refine lv_istore (lv' := [(6, .int v76), (5, .int v71), (0, .ref x0), (1, .ref x1), (2, .ref x2), (3, .ref x3), (4, .int x4)]) hx hb dL_law_513 hl (by decide) rfl (fun ls hl => ?_)
                      refine lv_aload_n hx hb dL_law_515 rfl (lv_at hl 4 rfl) ?_
                      obtain ⟨hrec, hp⟩ := hp
                      refine x_call0I (vx_runV (As := []) (rest := []) X (P_X4_thrown_ok (l := l) hl0 hp) (cwV 0 hts (lw_V q3227 q3228 q3229 q178 q3230) rfl rfl rfl (by decide +kernel) ⟨Nat.le_of_ble_eq_true rfl, Nat.le_of_ble_eq_true rfl⟩) ⟨wPc.blind, w_recv hC.1 hM (ci := 3) (q := (RX4, TX4, 28)) rfl hrec, w_pre hC hM hS _⟩ rfl rfl hl.1 rfl (lv_room (Nat.le_of_ble_eq_true rfl)) dL_law_516 (w_room0 hB)) hS (w_room0 hB) (fun _ _ _ _ _ _ h => False.elim h) (fun v79 M77 H locs hp hM hS => ?_)
                      refine lv_iload hx hb dL_law_519 (lv_at hl 1 rfl) ?_
                      refine lv_icmp_eq (tgt := 526) hx hb dL_law_521 (by decide) (fun hc => ?_) (fun hc => ?_)
                      · have hp := oIf.t hp hc
                        refine lv_iload hx hb dL_law_526 (lv_at hl 1 rfl) ?_
                        refine lv_if_ne (tgt := 543) hx hb dL_law_528 (by decide) (fun hc => ?_) (fun hc => ?_)
                        · have hp := oIf.f hp hc
                          exact hB543 rec23 hrec23 _ _ _ _ _ _ _ _ _ _ _ _ hp hM hS hB (lv_sub hl [2, 3, 4, 5, 6] rfl)
                        · have hp := oIf.t hp hc
                          refine lv_aload_n hx hb dL_law_531 rfl (lv_at hl 5 rfl) ?_
                          refine lv_iconst (v := 0) hx hb dL_law_532 (by decide) ?_
                          refine x_lald X hC.1 hM dL_law_533 hp (fun v80 hp => ?_)
                          refine lv_iload hx hb dL_law_534 (lv_at hl 0 rfl) ?_
                          refine lv_i2l (v := v76.toInt64) hx hb dL_law_536 rfl ?_
                          refine W.lcmp hx hb dL_law_537 ?_
                          refine lv_if_eq (tgt := 543) hx hb dL_law_538 (by decide) (fun hc => ?_) (fun hc => ?_)
                          · have hp := oIf.t hp hc
                            exact hB543 rec23 hrec23 _ _ _ _ _ _ _ _ _ _ _ _ hp hM hS hB (lv_sub hl [2, 3, 4, 5, 6] rfl)
                          · have hp := oIf.f hp hc
                            exact hp.elim
                      · have hp := oIf.f hp hc
                        exact hp.elim
                    · have hp := oIf.f hp hc7
                      by_cases hc8 : (v2 &&& (63 : Int32)) = (8 : Int32)
                      · have hp := oIf.t hp hc8
                        refine lv_tableIn (off := 506) (tgt := 546) hx hb dL_law_40 (by rw [hc8]; decide) (by rw [hc8]; decide) (by rw [hc8]; rfl) (by decide) ?_
                        refine lv_aload_n hx hb dL_law_546 rfl (lv_at hl 1 rfl) ?_
                        refine lv_aload_n hx hb dL_law_547 rfl (lv_at hl 0 rfl) ?_
                        refine lv_iload hx hb dL_law_548 (lv_at hl 4 rfl) ?_
                        refine lv_iconst (v := 1) hx hb dL_law_550 (by decide) ?_
                        refine lv_iadd hx hb dL_law_551 ?_
                        refine x_iald X hC.1 hM dL_law_552 hp (fun v81 hp => ?_)
                        refine lv_aload_n hx hb dL_law_553 rfl (lv_at hl 0 rfl) ?_
                        refine lv_iload hx hb dL_law_554 (lv_at hl 4 rfl) ?_
                        refine lv_iconst (v := 2) hx hb dL_law_556 (by decide) ?_
                        refine lv_iadd hx hb dL_law_557 ?_
                        refine x_iald X hC.1 hM dL_law_558 hp (fun v82 hp => ?_)
                        refine lv_aload_n hx hb dL_law_559 rfl (lv_at hl 3 rfl) ?_
                        obtain ⟨c84, hc1, hp⟩ := hp
                        refine x_callI (vx_runSX (As := [.ref x1, .int v81, .int v82, .ref x3]) (rest := []) X (P_X0_house_ok (l := l) hl0 hp) (vx_cwSW 4 hts (lw_SW q2239 q2240 q147 q2241) rfl rfl rfl (by decide +kernel) ⟨Nat.le_of_ble_eq_true rfl, Nat.le_of_ble_eq_true rfl⟩) ⟨wPc.blind, w_pre hC hM hS _⟩ rfl rfl hl.1 rfl (lv_room (Nat.le_of_ble_eq_true rfl)) dL_law_560 (w_room hB hc1)) hS hB hc1 (fun _ _ _ _ _ _ h => False.elim h) (fun v85 M83 H locs hp hM hS hB => ?_)
                        refine lv_istore (lv' := [(5, .int v85), (0, .ref x0), (1, .ref x1), (2, .ref x2), (3, .ref x3), (4, .int x4)]) hx hb dL_law_563 hl (by decide) rfl (fun ls hl => ?_)
                        refine lv_aload_n hx hb dL_law_565 rfl (lv_at hl 3 rfl) ?_
                        refine lv_aload_n hx hb dL_law_566 rfl (lv_at hl 1 rfl) ?_
                        refine lv_iload hx hb dL_law_567 (lv_at hl 5 rfl) ?_
                        refine lv_iconst (v := 1) hx hb dL_law_569 (by decide) ?_
                        refine lv_iadd hx hb dL_law_570 ?_
                        refine x_iald X hC.1 hM dL_law_571 hp (fun v86 hp => ?_)
                        refine lv_aload_n hx hb dL_law_572 rfl (lv_at hl 1 rfl) ?_
                        refine lv_iload hx hb dL_law_573 (lv_at hl 5 rfl) ?_
                        refine lv_iconst (v := 2) hx hb dL_law_575 (by decide) ?_
                        refine lv_iadd hx hb dL_law_576 ?_
                        refine x_iald X hC.1 hM dL_law_577 hp (fun v87 hp => ?_)
                        obtain ⟨hrec, hp⟩ := hp
                        refine x_call0I (vx_runV (As := [.int v86, .int v87]) (rest := []) X (P_X4_house_ok (l := l) hl0 hp) (cwV 2 hts (lw_V q3604 q3605 q3606 q178 q3607) rfl rfl rfl (by decide +kernel) ⟨Nat.le_of_ble_eq_true rfl, Nat.le_of_ble_eq_true rfl⟩) ⟨wPc.blind, w_recv hC.1 hM (ci := 3) (q := (RX4, TX4, 28)) rfl hrec, w_pre hC hM hS _⟩ rfl rfl hl.1 rfl (lv_room (Nat.le_of_ble_eq_true rfl)) dL_law_578 (w_room0 hB)) hS (w_room0 hB) (fun _ _ _ _ _ _ h => False.elim h) (fun v90 M88 H locs hp hM hS => ?_)
                        refine lv_istore (lv' := [(6, .int v90), (5, .int v85), (0, .ref x0), (1, .ref x1), (2, .ref x2), (3, .ref x3), (4, .int x4)]) hx hb dL_law_581 hl (by decide) rfl (fun ls hl => ?_)
                        refine lv_aload_n hx hb dL_law_583 rfl (lv_at hl 4 rfl) ?_
                        obtain ⟨hrec, hp⟩ := hp
                        refine x_call0I (vx_runV (As := []) (rest := []) X (P_X4_thrown_ok (l := l) hl0 hp) (cwV 0 hts (lw_V q3227 q3228 q3229 q178 q3230) rfl rfl rfl (by decide +kernel) ⟨Nat.le_of_ble_eq_true rfl, Nat.le_of_ble_eq_true rfl⟩) ⟨wPc.blind, w_recv hC.1 hM (ci := 3) (q := (RX4, TX4, 28)) rfl hrec, w_pre hC hM hS _⟩ rfl rfl hl.1 rfl (lv_room (Nat.le_of_ble_eq_true rfl)) dL_law_584 (w_room0 hB)) hS (w_room0 hB) (fun _ _ _ _ _ _ h => False.elim h) (fun v93 M91 H locs hp hM hS => ?_)
                        refine lv_iload hx hb dL_law_587 (lv_at hl 1 rfl) ?_
                        refine lv_icmp_eq (tgt := 594) hx hb dL_law_589 (by decide) (fun hc => ?_) (fun hc => ?_)
                        · have hp := oIf.t hp hc
                          refine lv_iload hx hb dL_law_594 (lv_at hl 1 rfl) ?_
                          refine lv_if_ne (tgt := 611) hx hb dL_law_596 (by decide) (fun hc => ?_) (fun hc => ?_)
                          · have hp := oIf.f hp hc
                            exact hB611 rec23 hrec23 _ _ _ _ _ _ _ _ _ _ _ _ hp hM hS hB (lv_sub hl [2, 3, 4, 5, 6] rfl)
                          · have hp := oIf.t hp hc
                            refine lv_aload_n hx hb dL_law_599 rfl (lv_at hl 5 rfl) ?_
                            refine lv_iconst (v := 0) hx hb dL_law_600 (by decide) ?_
                            refine x_lald X hC.1 hM dL_law_601 hp (fun v94 hp => ?_)
                            refine lv_iload hx hb dL_law_602 (lv_at hl 0 rfl) ?_
                            refine lv_i2l (v := v90.toInt64) hx hb dL_law_604 rfl ?_
                            refine W.lcmp hx hb dL_law_605 ?_
                            refine lv_if_eq (tgt := 611) hx hb dL_law_606 (by decide) (fun hc => ?_) (fun hc => ?_)
                            · have hp := oIf.t hp hc
                              exact hB611 rec23 hrec23 _ _ _ _ _ _ _ _ _ _ _ _ hp hM hS hB (lv_sub hl [2, 3, 4, 5, 6] rfl)
                            · have hp := oIf.f hp hc
                              exact hp.elim
                        · have hp := oIf.f hp hc
                          exact hp.elim
                      · have hp := oIf.f hp hc8
                        by_cases hc9 : (v2 &&& (63 : Int32)) = (9 : Int32)
                        · have hp := oIf.t hp hc9
                          refine lv_tableIn (off := 574) (tgt := 614) hx hb dL_law_40 (by rw [hc9]; decide) (by rw [hc9]; decide) (by rw [hc9]; rfl) (by decide) ?_
                          refine lv_aload_n hx hb dL_law_614 rfl (lv_at hl 1 rfl) ?_
                          refine lv_aload_n hx hb dL_law_615 rfl (lv_at hl 0 rfl) ?_
                          refine lv_iload hx hb dL_law_616 (lv_at hl 4 rfl) ?_
                          refine lv_iconst (v := 1) hx hb dL_law_618 (by decide) ?_
                          refine lv_iadd hx hb dL_law_619 ?_
                          refine x_iald X hC.1 hM dL_law_620 hp (fun v95 hp => ?_)
                          refine lv_aload_n hx hb dL_law_621 rfl (lv_at hl 3 rfl) ?_
                          obtain ⟨c97, hc1, hp⟩ := hp
                          refine x_callI (vx_runSX (As := [.ref x1, .int v95, .ref x3]) (rest := []) X (P_X0_amount_ok (l := l) hl0 hp) (vx_cwSW 3 hts (lw_SW q2314 q2315 q147 q2316) rfl rfl rfl (by decide +kernel) ⟨Nat.le_of_ble_eq_true rfl, Nat.le_of_ble_eq_true rfl⟩) ⟨wPc.blind, w_pre hC hM hS _⟩ rfl rfl hl.1 rfl (lv_room (Nat.le_of_ble_eq_true rfl)) dL_law_622 (w_room hB hc1)) hS hB hc1 (fun _ _ _ _ _ _ h => False.elim h) (fun v98 M96 H locs hp hM hS hB => ?_)
                          refine lv_istore (lv' := [(5, .int v98), (0, .ref x0), (1, .ref x1), (2, .ref x2), (3, .ref x3), (4, .int x4)]) hx hb dL_law_625 hl (by decide) rfl (fun ls hl => ?_)
                          refine lv_aload_n hx hb dL_law_627 rfl (lv_at hl 3 rfl) ?_
                          refine lv_aload_n hx hb dL_law_628 rfl (lv_at hl 1 rfl) ?_
                          refine lv_iload hx hb dL_law_629 (lv_at hl 5 rfl) ?_
                          refine lv_iconst (v := 1) hx hb dL_law_631 (by decide) ?_
                          refine lv_iadd hx hb dL_law_632 ?_
                          refine x_iald X hC.1 hM dL_law_633 hp (fun v99 hp => ?_)
                          obtain ⟨hrec, hp⟩ := hp
                          refine x_call0I (vx_runV (As := [.int v99]) (rest := []) X (P_X4_amount_ok (l := l) hl0 hp) (cwV 1 hts (lw_V q3571 q3572 q3573 q178 q3574) rfl rfl rfl (by decide +kernel) ⟨Nat.le_of_ble_eq_true rfl, Nat.le_of_ble_eq_true rfl⟩) ⟨wPc.blind, w_recv hC.1 hM (ci := 3) (q := (RX4, TX4, 28)) rfl hrec, w_pre hC hM hS _⟩ rfl rfl hl.1 rfl (lv_room (Nat.le_of_ble_eq_true rfl)) dL_law_634 (w_room0 hB)) hS (w_room0 hB) (fun _ _ _ _ _ _ h => False.elim h) (fun v102 M100 H locs hp hM hS => ?_)
                          refine lv_istore (lv' := [(6, .int v102), (5, .int v98), (0, .ref x0), (1, .ref x1), (2, .ref x2), (3, .ref x3), (4, .int x4)]) hx hb dL_law_637 hl (by decide) rfl (fun ls hl => ?_)
                          refine lv_aload_n hx hb dL_law_639 rfl (lv_at hl 4 rfl) ?_
                          obtain ⟨hrec, hp⟩ := hp
                          refine x_call0I (vx_runV (As := []) (rest := []) X (P_X4_thrown_ok (l := l) hl0 hp) (cwV 0 hts (lw_V q3227 q3228 q3229 q178 q3230) rfl rfl rfl (by decide +kernel) ⟨Nat.le_of_ble_eq_true rfl, Nat.le_of_ble_eq_true rfl⟩) ⟨wPc.blind, w_recv hC.1 hM (ci := 3) (q := (RX4, TX4, 28)) rfl hrec, w_pre hC hM hS _⟩ rfl rfl hl.1 rfl (lv_room (Nat.le_of_ble_eq_true rfl)) dL_law_640 (w_room0 hB)) hS (w_room0 hB) (fun _ _ _ _ _ _ h => False.elim h) (fun v105 M103 H locs hp hM hS => ?_)
                          refine lv_iload hx hb dL_law_643 (lv_at hl 1 rfl) ?_
                          refine lv_icmp_eq (tgt := 650) hx hb dL_law_645 (by decide) (fun hc => ?_) (fun hc => ?_)
                          · have hp := oIf.t hp hc
                            refine lv_iload hx hb dL_law_650 (lv_at hl 1 rfl) ?_
                            refine lv_if_ne (tgt := 667) hx hb dL_law_652 (by decide) (fun hc => ?_) (fun hc => ?_)
                            · have hp := oIf.f hp hc
                              exact hB667 rec23 hrec23 _ _ _ _ _ _ _ _ _ _ _ _ hp hM hS hB (lv_sub hl [2, 3, 4, 5, 6] rfl)
                            · have hp := oIf.t hp hc
                              refine lv_aload_n hx hb dL_law_655 rfl (lv_at hl 5 rfl) ?_
                              refine lv_iconst (v := 0) hx hb dL_law_656 (by decide) ?_
                              refine x_lald X hC.1 hM dL_law_657 hp (fun v106 hp => ?_)
                              refine lv_iload hx hb dL_law_658 (lv_at hl 0 rfl) ?_
                              refine lv_i2l (v := v102.toInt64) hx hb dL_law_660 rfl ?_
                              refine W.lcmp hx hb dL_law_661 ?_
                              refine lv_if_eq (tgt := 667) hx hb dL_law_662 (by decide) (fun hc => ?_) (fun hc => ?_)
                              · have hp := oIf.t hp hc
                                exact hB667 rec23 hrec23 _ _ _ _ _ _ _ _ _ _ _ _ hp hM hS hB (lv_sub hl [2, 3, 4, 5, 6] rfl)
                              · have hp := oIf.f hp hc
                                exact hp.elim
                          · have hp := oIf.f hp hc
                            exact hp.elim
                        · have hp := oIf.f hp hc9
                          by_cases hc10 : (v2 &&& (63 : Int32)) = (10 : Int32)
                          · have hp := oIf.t hp hc10
                            refine lv_tableIn (off := 630) (tgt := 670) hx hb dL_law_40 (by rw [hc10]; decide) (by rw [hc10]; decide) (by rw [hc10]; rfl) (by decide) ?_
                            refine lv_aload_n hx hb dL_law_670 rfl (lv_at hl 1 rfl) ?_
                            refine lv_aload_n hx hb dL_law_671 rfl (lv_at hl 0 rfl) ?_
                            refine lv_iload hx hb dL_law_672 (lv_at hl 4 rfl) ?_
                            refine lv_iconst (v := 1) hx hb dL_law_674 (by decide) ?_
                            refine lv_iadd hx hb dL_law_675 ?_
                            refine x_iald X hC.1 hM dL_law_676 hp (fun v107 hp => ?_)
                            refine lv_aload_n hx hb dL_law_677 rfl (lv_at hl 3 rfl) ?_
                            obtain ⟨c109, hc1, hp⟩ := hp
                            refine x_callI (vx_runSX (As := [.ref x1, .int v107, .ref x3]) (rest := []) X (P_X0_find_ok (l := l) hl0 hp) (vx_cwSW 3 hts (lw_SW q2333 q2334 q147 q2335) rfl rfl rfl (by decide +kernel) ⟨Nat.le_of_ble_eq_true rfl, Nat.le_of_ble_eq_true rfl⟩) ⟨wPc.blind, w_pre hC hM hS _⟩ rfl rfl hl.1 rfl (lv_room (Nat.le_of_ble_eq_true rfl)) dL_law_678 (w_room hB hc1)) hS hB hc1 (fun _ _ _ _ _ _ h => False.elim h) (fun v110 M108 H locs hp hM hS hB => ?_)
                            refine lv_istore (lv' := [(5, .int v110), (0, .ref x0), (1, .ref x1), (2, .ref x2), (3, .ref x3), (4, .int x4)]) hx hb dL_law_681 hl (by decide) rfl (fun ls hl => ?_)
                            refine lv_aload_n hx hb dL_law_683 rfl (lv_at hl 3 rfl) ?_
                            refine lv_aload_n hx hb dL_law_684 rfl (lv_at hl 1 rfl) ?_
                            refine lv_iload hx hb dL_law_685 (lv_at hl 5 rfl) ?_
                            refine lv_iconst (v := 1) hx hb dL_law_687 (by decide) ?_
                            refine lv_iadd hx hb dL_law_688 ?_
                            refine x_iald X hC.1 hM dL_law_689 hp (fun v111 hp => ?_)
                            obtain ⟨hrec, hp⟩ := hp
                            refine x_call0I (vx_runV (As := [.int v111]) (rest := []) X (P_X4_find_ok (l := l) hl0 hp) (cwV 1 hts (lw_V q3776 q3777 q3778 q178 q3779) rfl rfl rfl (by decide +kernel) ⟨Nat.le_of_ble_eq_true rfl, Nat.le_of_ble_eq_true rfl⟩) ⟨wPc.blind, w_recv hC.1 hM (ci := 3) (q := (RX4, TX4, 28)) rfl hrec, w_pre hC hM hS _⟩ rfl rfl hl.1 rfl (lv_room (Nat.le_of_ble_eq_true rfl)) dL_law_690 (w_room0 hB)) hS (w_room0 hB) (fun _ _ _ _ _ _ h => False.elim h) (fun v114 M112 H locs hp hM hS => ?_)
                            refine lv_istore (lv' := [(6, .int v114), (5, .int v110), (0, .ref x0), (1, .ref x1), (2, .ref x2), (3, .ref x3), (4, .int x4)]) hx hb dL_law_693 hl (by decide) rfl (fun ls hl => ?_)
                            refine lv_aload_n hx hb dL_law_695 rfl (lv_at hl 4 rfl) ?_
                            obtain ⟨hrec, hp⟩ := hp
                            refine x_call0I (vx_runV (As := []) (rest := []) X (P_X4_thrown_ok (l := l) hl0 hp) (cwV 0 hts (lw_V q3227 q3228 q3229 q178 q3230) rfl rfl rfl (by decide +kernel) ⟨Nat.le_of_ble_eq_true rfl, Nat.le_of_ble_eq_true rfl⟩) ⟨wPc.blind, w_recv hC.1 hM (ci := 3) (q := (RX4, TX4, 28)) rfl hrec, w_pre hC hM hS _⟩ rfl rfl hl.1 rfl (lv_room (Nat.le_of_ble_eq_true rfl)) dL_law_696 (w_room0 hB)) hS (w_room0 hB) (fun _ _ _ _ _ _ h => False.elim h) (fun v117 M115 H locs hp hM hS => ?_)
                            refine lv_iload hx hb dL_law_699 (lv_at hl 1 rfl) ?_
                            refine lv_icmp_eq (tgt := 706) hx hb dL_law_701 (by decide) (fun hc => ?_) (fun hc => ?_)
                            · have hp := oIf.t hp hc
                              refine lv_iload hx hb dL_law_706 (lv_at hl 1 rfl) ?_
                              refine lv_if_ne (tgt := 723) hx hb dL_law_708 (by decide) (fun hc => ?_) (fun hc => ?_)
                              · have hp := oIf.f hp hc
                                exact hB723 rec23 hrec23 _ _ _ _ _ _ _ _ _ _ _ _ hp hM hS hB (lv_sub hl [2, 3, 4, 5, 6] rfl)
                              · have hp := oIf.t hp hc
                                refine lv_aload_n hx hb dL_law_711 rfl (lv_at hl 5 rfl) ?_
                                refine lv_iconst (v := 0) hx hb dL_law_712 (by decide) ?_
                                refine x_lald X hC.1 hM dL_law_713 hp (fun v118 hp => ?_)
                                refine lv_iload hx hb dL_law_714 (lv_at hl 0 rfl) ?_
                                refine lv_i2l (v := v114.toInt64) hx hb dL_law_716 rfl ?_
                                refine W.lcmp hx hb dL_law_717 ?_
                                refine lv_if_eq (tgt := 723) hx hb dL_law_718 (by decide) (fun hc => ?_) (fun hc => ?_)
                                · have hp := oIf.t hp hc
                                  exact hB723 rec23 hrec23 _ _ _ _ _ _ _ _ _ _ _ _ hp hM hS hB (lv_sub hl [2, 3, 4, 5, 6] rfl)
                                · have hp := oIf.f hp hc
                                  exact hp.elim
                            · have hp := oIf.f hp hc
                              exact hp.elim
                          · have hp := oIf.f hp hc10
                            by_cases hc11 : (v2 &&& (63 : Int32)) = (11 : Int32)
                            · have hp := oIf.t hp hc11
                              refine lv_tableIn (off := 686) (tgt := 726) hx hb dL_law_40 (by rw [hc11]; decide) (by rw [hc11]; decide) (by rw [hc11]; rfl) (by decide) ?_
                              refine lv_aload_n hx hb dL_law_726 rfl (lv_at hl 1 rfl) ?_
                              refine lv_aload_n hx hb dL_law_727 rfl (lv_at hl 0 rfl) ?_
                              refine lv_iload hx hb dL_law_728 (lv_at hl 4 rfl) ?_
                              refine lv_iconst (v := 1) hx hb dL_law_730 (by decide) ?_
                              refine lv_iadd hx hb dL_law_731 ?_
                              refine x_iald X hC.1 hM dL_law_732 hp (fun v119 hp => ?_)
                              refine lv_aload_n hx hb dL_law_733 rfl (lv_at hl 0 rfl) ?_
                              refine lv_iload hx hb dL_law_734 (lv_at hl 4 rfl) ?_
                              refine lv_iconst (v := 2) hx hb dL_law_736 (by decide) ?_
                              refine lv_iadd hx hb dL_law_737 ?_
                              refine x_iald X hC.1 hM dL_law_738 hp (fun v120 hp => ?_)
                              refine lv_aload_n hx hb dL_law_739 rfl (lv_at hl 3 rfl) ?_
                              obtain ⟨c122, hc1, hp⟩ := hp
                              refine x_callI (vx_runSX (As := [.ref x1, .int v119, .int v120, .ref x3]) (rest := []) X (P_X0_permit_ok (l := l) hl0 hp) (vx_cwSW 4 hts (lw_SW q2345 q2346 q147 q2347) rfl rfl rfl (by decide +kernel) ⟨Nat.le_of_ble_eq_true rfl, Nat.le_of_ble_eq_true rfl⟩) ⟨wPc.blind, w_pre hC hM hS _⟩ rfl rfl hl.1 rfl (lv_room (Nat.le_of_ble_eq_true rfl)) dL_law_740 (w_room hB hc1)) hS hB hc1 (fun _ _ _ _ _ _ h => False.elim h) (fun v123 M121 H locs hp hM hS hB => ?_)
                              refine lv_istore (lv' := [(5, .int v123), (0, .ref x0), (1, .ref x1), (2, .ref x2), (3, .ref x3), (4, .int x4)]) hx hb dL_law_743 hl (by decide) rfl (fun ls hl => ?_)
                              refine lv_aload_n hx hb dL_law_745 rfl (lv_at hl 3 rfl) ?_
                              refine lv_aload_n hx hb dL_law_746 rfl (lv_at hl 1 rfl) ?_
                              refine lv_iload hx hb dL_law_747 (lv_at hl 5 rfl) ?_
                              refine lv_iconst (v := 1) hx hb dL_law_749 (by decide) ?_
                              refine lv_iadd hx hb dL_law_750 ?_
                              refine x_iald X hC.1 hM dL_law_751 hp (fun v124 hp => ?_)
                              refine lv_aload_n hx hb dL_law_752 rfl (lv_at hl 1 rfl) ?_
                              refine lv_iload hx hb dL_law_753 (lv_at hl 5 rfl) ?_
                              refine lv_iconst (v := 2) hx hb dL_law_755 (by decide) ?_
                              refine lv_iadd hx hb dL_law_756 ?_
                              refine x_iald X hC.1 hM dL_law_757 hp (fun v125 hp => ?_)
                              obtain ⟨hrec, hp⟩ := hp
                              refine x_call0I (vx_runV (As := [.int v124, .int v125]) (rest := []) X (P_X4_permit_ok (l := l) hl0 hp) (cwV 2 hts (lw_V q3375 q3376 q3377 q178 q3378) rfl rfl rfl (by decide +kernel) ⟨Nat.le_of_ble_eq_true rfl, Nat.le_of_ble_eq_true rfl⟩) ⟨wPc.blind, w_recv hC.1 hM (ci := 3) (q := (RX4, TX4, 28)) rfl hrec, w_pre hC hM hS _⟩ rfl rfl hl.1 rfl (lv_room (Nat.le_of_ble_eq_true rfl)) dL_law_758 (w_room0 hB)) hS (w_room0 hB) (fun _ _ _ _ _ _ h => False.elim h) (fun v128 M126 H locs hp hM hS => ?_)
                              refine lv_istore (lv' := [(6, .int v128), (5, .int v123), (0, .ref x0), (1, .ref x1), (2, .ref x2), (3, .ref x3), (4, .int x4)]) hx hb dL_law_761 hl (by decide) rfl (fun ls hl => ?_)
                              refine lv_aload_n hx hb dL_law_763 rfl (lv_at hl 4 rfl) ?_
                              obtain ⟨hrec, hp⟩ := hp
                              refine x_call0I (vx_runV (As := []) (rest := []) X (P_X4_thrown_ok (l := l) hl0 hp) (cwV 0 hts (lw_V q3227 q3228 q3229 q178 q3230) rfl rfl rfl (by decide +kernel) ⟨Nat.le_of_ble_eq_true rfl, Nat.le_of_ble_eq_true rfl⟩) ⟨wPc.blind, w_recv hC.1 hM (ci := 3) (q := (RX4, TX4, 28)) rfl hrec, w_pre hC hM hS _⟩ rfl rfl hl.1 rfl (lv_room (Nat.le_of_ble_eq_true rfl)) dL_law_764 (w_room0 hB)) hS (w_room0 hB) (fun _ _ _ _ _ _ h => False.elim h) (fun v131 M129 H locs hp hM hS => ?_)
                              refine lv_iload hx hb dL_law_767 (lv_at hl 1 rfl) ?_
                              refine lv_icmp_eq (tgt := 774) hx hb dL_law_769 (by decide) (fun hc => ?_) (fun hc => ?_)
                              · have hp := oIf.t hp hc
                                refine lv_iload hx hb dL_law_774 (lv_at hl 1 rfl) ?_
                                refine lv_if_ne (tgt := 791) hx hb dL_law_776 (by decide) (fun hc => ?_) (fun hc => ?_)
                                · have hp := oIf.f hp hc
                                  exact hB791 rec23 hrec23 _ _ _ _ _ _ _ _ _ _ _ _ hp hM hS hB (lv_sub hl [2, 3, 4, 5, 6] rfl)
                                · have hp := oIf.t hp hc
                                  refine lv_aload_n hx hb dL_law_779 rfl (lv_at hl 5 rfl) ?_
                                  refine lv_iconst (v := 0) hx hb dL_law_780 (by decide) ?_
                                  refine x_lald X hC.1 hM dL_law_781 hp (fun v132 hp => ?_)
                                  refine lv_iload hx hb dL_law_782 (lv_at hl 0 rfl) ?_
                                  refine lv_i2l (v := v128.toInt64) hx hb dL_law_784 rfl ?_
                                  refine W.lcmp hx hb dL_law_785 ?_
                                  refine lv_if_eq (tgt := 791) hx hb dL_law_786 (by decide) (fun hc => ?_) (fun hc => ?_)
                                  · have hp := oIf.t hp hc
                                    exact hB791 rec23 hrec23 _ _ _ _ _ _ _ _ _ _ _ _ hp hM hS hB (lv_sub hl [2, 3, 4, 5, 6] rfl)
                                  · have hp := oIf.f hp hc
                                    exact hp.elim
                              · have hp := oIf.f hp hc
                                exact hp.elim
                            · have hp := oIf.f hp hc11
                              by_cases hc12 : (v2 &&& (63 : Int32)) = (12 : Int32)
                              · have hp := oIf.t hp hc12
                                refine lv_tableIn (off := 754) (tgt := 794) hx hb dL_law_40 (by rw [hc12]; decide) (by rw [hc12]; decide) (by rw [hc12]; rfl) (by decide) ?_
                                refine lv_aload_n hx hb dL_law_794 rfl (lv_at hl 1 rfl) ?_
                                refine lv_aload_n hx hb dL_law_795 rfl (lv_at hl 0 rfl) ?_
                                refine lv_iload hx hb dL_law_796 (lv_at hl 4 rfl) ?_
                                refine lv_iconst (v := 1) hx hb dL_law_798 (by decide) ?_
                                refine lv_iadd hx hb dL_law_799 ?_
                                refine x_iald X hC.1 hM dL_law_800 hp (fun v133 hp => ?_)
                                refine lv_aload_n hx hb dL_law_801 rfl (lv_at hl 0 rfl) ?_
                                refine lv_iload hx hb dL_law_802 (lv_at hl 4 rfl) ?_
                                refine lv_iconst (v := 2) hx hb dL_law_804 (by decide) ?_
                                refine lv_iadd hx hb dL_law_805 ?_
                                refine x_iald X hC.1 hM dL_law_806 hp (fun v134 hp => ?_)
                                refine lv_aload_n hx hb dL_law_807 rfl (lv_at hl 3 rfl) ?_
                                obtain ⟨c136, hc1, hp⟩ := hp
                                refine x_callI (vx_runSX (As := [.ref x1, .int v133, .int v134, .ref x3]) (rest := []) X (P_X0_waiting_ok (l := l) hl0 hp) (vx_cwSW 4 hts (lw_SW q2356 q2357 q147 q2358) rfl rfl rfl (by decide +kernel) ⟨Nat.le_of_ble_eq_true rfl, Nat.le_of_ble_eq_true rfl⟩) ⟨wPc.blind, w_pre hC hM hS _⟩ rfl rfl hl.1 rfl (lv_room (Nat.le_of_ble_eq_true rfl)) dL_law_808 (w_room hB hc1)) hS hB hc1 (fun _ _ _ _ _ _ h => False.elim h) (fun v137 M135 H locs hp hM hS hB => ?_)
                                refine lv_istore (lv' := [(5, .int v137), (0, .ref x0), (1, .ref x1), (2, .ref x2), (3, .ref x3), (4, .int x4)]) hx hb dL_law_811 hl (by decide) rfl (fun ls hl => ?_)
                                refine lv_aload_n hx hb dL_law_813 rfl (lv_at hl 3 rfl) ?_
                                refine lv_aload_n hx hb dL_law_814 rfl (lv_at hl 1 rfl) ?_
                                refine lv_iload hx hb dL_law_815 (lv_at hl 5 rfl) ?_
                                refine lv_iconst (v := 1) hx hb dL_law_817 (by decide) ?_
                                refine lv_iadd hx hb dL_law_818 ?_
                                refine x_iald X hC.1 hM dL_law_819 hp (fun v138 hp => ?_)
                                refine lv_aload_n hx hb dL_law_820 rfl (lv_at hl 1 rfl) ?_
                                refine lv_iload hx hb dL_law_821 (lv_at hl 5 rfl) ?_
                                refine lv_iconst (v := 2) hx hb dL_law_823 (by decide) ?_
                                refine lv_iadd hx hb dL_law_824 ?_
                                refine x_iald X hC.1 hM dL_law_825 hp (fun v139 hp => ?_)
                                obtain ⟨hrec, hp⟩ := hp
                                refine x_call0I (vx_runV (As := [.int v138, .int v139]) (rest := []) X (P_X4_waiting_ok (l := l) hl0 hp) (cwV 2 hts (lw_V q3380 q3381 q3382 q178 q3383) rfl rfl rfl (by decide +kernel) ⟨Nat.le_of_ble_eq_true rfl, Nat.le_of_ble_eq_true rfl⟩) ⟨wPc.blind, w_recv hC.1 hM (ci := 3) (q := (RX4, TX4, 28)) rfl hrec, w_pre hC hM hS _⟩ rfl rfl hl.1 rfl (lv_room (Nat.le_of_ble_eq_true rfl)) dL_law_826 (w_room0 hB)) hS (w_room0 hB) (fun _ _ _ _ _ _ h => False.elim h) (fun v142 M140 H locs hp hM hS => ?_)
                                refine lv_istore (lv' := [(6, .int v142), (5, .int v137), (0, .ref x0), (1, .ref x1), (2, .ref x2), (3, .ref x3), (4, .int x4)]) hx hb dL_law_829 hl (by decide) rfl (fun ls hl => ?_)
                                refine lv_aload_n hx hb dL_law_831 rfl (lv_at hl 4 rfl) ?_
                                obtain ⟨hrec, hp⟩ := hp
                                refine x_call0I (vx_runV (As := []) (rest := []) X (P_X4_thrown_ok (l := l) hl0 hp) (cwV 0 hts (lw_V q3227 q3228 q3229 q178 q3230) rfl rfl rfl (by decide +kernel) ⟨Nat.le_of_ble_eq_true rfl, Nat.le_of_ble_eq_true rfl⟩) ⟨wPc.blind, w_recv hC.1 hM (ci := 3) (q := (RX4, TX4, 28)) rfl hrec, w_pre hC hM hS _⟩ rfl rfl hl.1 rfl (lv_room (Nat.le_of_ble_eq_true rfl)) dL_law_832 (w_room0 hB)) hS (w_room0 hB) (fun _ _ _ _ _ _ h => False.elim h) (fun v145 M143 H locs hp hM hS => ?_)
                                refine lv_iload hx hb dL_law_835 (lv_at hl 1 rfl) ?_
                                refine lv_icmp_eq (tgt := 842) hx hb dL_law_837 (by decide) (fun hc => ?_) (fun hc => ?_)
                                · have hp := oIf.t hp hc
                                  refine lv_iload hx hb dL_law_842 (lv_at hl 1 rfl) ?_
                                  refine lv_if_ne (tgt := 859) hx hb dL_law_844 (by decide) (fun hc => ?_) (fun hc => ?_)
                                  · have hp := oIf.f hp hc
                                    exact hB859 rec23 hrec23 _ _ _ _ _ _ _ _ _ _ _ _ hp hM hS hB (lv_sub hl [2, 3, 4, 5, 6] rfl)
                                  · have hp := oIf.t hp hc
                                    refine lv_aload_n hx hb dL_law_847 rfl (lv_at hl 5 rfl) ?_
                                    refine lv_iconst (v := 0) hx hb dL_law_848 (by decide) ?_
                                    refine x_lald X hC.1 hM dL_law_849 hp (fun v146 hp => ?_)
                                    refine lv_iload hx hb dL_law_850 (lv_at hl 0 rfl) ?_
                                    refine lv_i2l (v := v142.toInt64) hx hb dL_law_852 rfl ?_
                                    refine W.lcmp hx hb dL_law_853 ?_
                                    refine lv_if_eq (tgt := 859) hx hb dL_law_854 (by decide) (fun hc => ?_) (fun hc => ?_)
                                    · have hp := oIf.t hp hc
                                      exact hB859 rec23 hrec23 _ _ _ _ _ _ _ _ _ _ _ _ hp hM hS hB (lv_sub hl [2, 3, 4, 5, 6] rfl)
                                    · have hp := oIf.f hp hc
                                      exact hp.elim
                                · have hp := oIf.f hp hc
                                  exact hp.elim
                              · have hp := oIf.f hp hc12
                                by_cases hc13 : (v2 &&& (63 : Int32)) = (13 : Int32)
                                · have hp := oIf.t hp hc13
                                  refine lv_tableIn (off := 822) (tgt := 862) hx hb dL_law_40 (by rw [hc13]; decide) (by rw [hc13]; decide) (by rw [hc13]; rfl) (by decide) ?_
                                  refine lv_aload_n hx hb dL_law_862 rfl (lv_at hl 1 rfl) ?_
                                  refine lv_aload_n hx hb dL_law_863 rfl (lv_at hl 0 rfl) ?_
                                  refine lv_iload hx hb dL_law_864 (lv_at hl 4 rfl) ?_
                                  refine lv_iconst (v := 1) hx hb dL_law_866 (by decide) ?_
                                  refine lv_iadd hx hb dL_law_867 ?_
                                  refine x_iald X hC.1 hM dL_law_868 hp (fun v147 hp => ?_)
                                  refine lv_aload_n hx hb dL_law_869 rfl (lv_at hl 3 rfl) ?_
                                  obtain ⟨c149, hc1, hp⟩ := hp
                                  refine x_callI (vx_runSX (As := [.ref x1, .int v147, .ref x3]) (rest := []) X (P_X0_waitingPlace_ok (l := l) hl0 hp) (vx_cwSW 3 hts (lw_SW q2408 q2409 q147 q2410) rfl rfl rfl (by decide +kernel) ⟨Nat.le_of_ble_eq_true rfl, Nat.le_of_ble_eq_true rfl⟩) ⟨wPc.blind, w_pre hC hM hS _⟩ rfl rfl hl.1 rfl (lv_room (Nat.le_of_ble_eq_true rfl)) dL_law_870 (w_room hB hc1)) hS hB hc1 (fun _ _ _ _ _ _ h => False.elim h) (fun v150 M148 H locs hp hM hS hB => ?_)
                                  refine lv_istore (lv' := [(5, .int v150), (0, .ref x0), (1, .ref x1), (2, .ref x2), (3, .ref x3), (4, .int x4)]) hx hb dL_law_873 hl (by decide) rfl (fun ls hl => ?_)
                                  refine lv_aload_n hx hb dL_law_875 rfl (lv_at hl 3 rfl) ?_
                                  refine lv_aload_n hx hb dL_law_876 rfl (lv_at hl 1 rfl) ?_
                                  refine lv_iload hx hb dL_law_877 (lv_at hl 5 rfl) ?_
                                  refine lv_iconst (v := 1) hx hb dL_law_879 (by decide) ?_
                                  refine lv_iadd hx hb dL_law_880 ?_
                                  refine x_iald X hC.1 hM dL_law_881 hp (fun v151 hp => ?_)
                                  obtain ⟨hrec, hp⟩ := hp
                                  refine x_call0I (vx_runV (As := [.int v151]) (rest := []) X (P_X4_waitingPlace_ok (l := l) hl0 hp) (cwV 1 hts (lw_V q3388 q3389 q3390 q178 q3391) rfl rfl rfl (by decide +kernel) ⟨Nat.le_of_ble_eq_true rfl, Nat.le_of_ble_eq_true rfl⟩) ⟨wPc.blind, w_recv hC.1 hM (ci := 3) (q := (RX4, TX4, 28)) rfl hrec, w_pre hC hM hS _⟩ rfl rfl hl.1 rfl (lv_room (Nat.le_of_ble_eq_true rfl)) dL_law_882 (w_room0 hB)) hS (w_room0 hB) (fun _ _ _ _ _ _ h => False.elim h) (fun v154 M152 H locs hp hM hS => ?_)
                                  refine lv_istore (lv' := [(6, .int v154), (5, .int v150), (0, .ref x0), (1, .ref x1), (2, .ref x2), (3, .ref x3), (4, .int x4)]) hx hb dL_law_885 hl (by decide) rfl (fun ls hl => ?_)
                                  refine lv_aload_n hx hb dL_law_887 rfl (lv_at hl 4 rfl) ?_
                                  obtain ⟨hrec, hp⟩ := hp
                                  refine x_call0I (vx_runV (As := []) (rest := []) X (P_X4_thrown_ok (l := l) hl0 hp) (cwV 0 hts (lw_V q3227 q3228 q3229 q178 q3230) rfl rfl rfl (by decide +kernel) ⟨Nat.le_of_ble_eq_true rfl, Nat.le_of_ble_eq_true rfl⟩) ⟨wPc.blind, w_recv hC.1 hM (ci := 3) (q := (RX4, TX4, 28)) rfl hrec, w_pre hC hM hS _⟩ rfl rfl hl.1 rfl (lv_room (Nat.le_of_ble_eq_true rfl)) dL_law_888 (w_room0 hB)) hS (w_room0 hB) (fun _ _ _ _ _ _ h => False.elim h) (fun v157 M155 H locs hp hM hS => ?_)
                                  refine lv_iload hx hb dL_law_891 (lv_at hl 1 rfl) ?_
                                  refine lv_icmp_eq (tgt := 898) hx hb dL_law_893 (by decide) (fun hc => ?_) (fun hc => ?_)
                                  · have hp := oIf.t hp hc
                                    refine lv_iload hx hb dL_law_898 (lv_at hl 1 rfl) ?_
                                    refine lv_if_ne (tgt := 915) hx hb dL_law_900 (by decide) (fun hc => ?_) (fun hc => ?_)
                                    · have hp := oIf.f hp hc
                                      exact hB915 rec23 hrec23 _ _ _ _ _ _ _ _ _ _ _ _ hp hM hS hB (lv_sub hl [2, 3, 4, 5, 6] rfl)
                                    · have hp := oIf.t hp hc
                                      refine lv_aload_n hx hb dL_law_903 rfl (lv_at hl 5 rfl) ?_
                                      refine lv_iconst (v := 0) hx hb dL_law_904 (by decide) ?_
                                      refine x_lald X hC.1 hM dL_law_905 hp (fun v158 hp => ?_)
                                      refine lv_iload hx hb dL_law_906 (lv_at hl 0 rfl) ?_
                                      refine lv_i2l (v := v154.toInt64) hx hb dL_law_908 rfl ?_
                                      refine W.lcmp hx hb dL_law_909 ?_
                                      refine lv_if_eq (tgt := 915) hx hb dL_law_910 (by decide) (fun hc => ?_) (fun hc => ?_)
                                      · have hp := oIf.t hp hc
                                        exact hB915 rec23 hrec23 _ _ _ _ _ _ _ _ _ _ _ _ hp hM hS hB (lv_sub hl [2, 3, 4, 5, 6] rfl)
                                      · have hp := oIf.f hp hc
                                        exact hp.elim
                                  · have hp := oIf.f hp hc
                                    exact hp.elim
                                · have hp := oIf.f hp hc13
                                  by_cases hc14 : (v2 &&& (63 : Int32)) = (14 : Int32)
                                  · have hp := oIf.t hp hc14
                                    refine lv_tableIn (off := 878) (tgt := 918) hx hb dL_law_40 (by rw [hc14]; decide) (by rw [hc14]; decide) (by rw [hc14]; rfl) (by decide) ?_
                                    refine lv_aload_n hx hb dL_law_918 rfl (lv_at hl 1 rfl) ?_
                                    refine lv_aload_n hx hb dL_law_919 rfl (lv_at hl 0 rfl) ?_
                                    refine lv_iload hx hb dL_law_920 (lv_at hl 4 rfl) ?_
                                    refine lv_iconst (v := 1) hx hb dL_law_922 (by decide) ?_
                                    refine lv_iadd hx hb dL_law_923 ?_
                                    refine x_iald X hC.1 hM dL_law_924 hp (fun v159 hp => ?_)
                                    obtain ⟨hrec, hp⟩ := hp
                                    obtain ⟨c161, hc1, hp⟩ := hp
                                    refine x_callI (vx_runV (As := [.int v159]) (rest := []) X (P_X1_permitOf_ok (l := l) hl0 hp) (cwV 1 hts (lw_V q1561 q1562 q1563 q148 q1564) rfl rfl rfl (by decide +kernel) ⟨Nat.le_of_ble_eq_true rfl, Nat.le_of_ble_eq_true rfl⟩) ⟨wPc.blind, w_recv hC.1 hM (ci := 0) (q := (RX1, TX1, 8)) rfl hrec, w_pre hC hM hS _⟩ rfl rfl hl.1 rfl (lv_room (Nat.le_of_ble_eq_true rfl)) dL_law_925 (w_room hB hc1)) hS hB hc1 (fun _ _ _ _ _ _ h => False.elim h) (fun v162 M160 H locs hp hM hS hB => ?_)
                                    refine lv_aload_n hx hb dL_law_928 rfl (lv_at hl 2 rfl) ?_
                                    refine lv_aload_n hx hb dL_law_929 rfl (lv_at hl 0 rfl) ?_
                                    refine lv_iload hx hb dL_law_930 (lv_at hl 4 rfl) ?_
                                    refine lv_iconst (v := 1) hx hb dL_law_932 (by decide) ?_
                                    refine lv_iadd hx hb dL_law_933 ?_
                                    refine x_iald X hC.1 hM dL_law_934 hp (fun v163 hp => ?_)
                                    obtain ⟨hrec, hp⟩ := hp
                                    refine x_call0I (vx_runV (As := [.int v163]) (rest := [.int v162]) X (P_X4_permitOf_ok (l := l) hl0 hp) (cwV 1 hts (lw_V q3392 q3393 q3394 q178 q3395) rfl rfl rfl (by decide +kernel) ⟨Nat.le_of_ble_eq_true rfl, Nat.le_of_ble_eq_true rfl⟩) ⟨wPc.blind, w_recv hC.1 hM (ci := 3) (q := (RX4, TX4, 28)) rfl hrec, w_pre hC hM hS _⟩ rfl rfl hl.1 rfl (lv_room (Nat.le_of_ble_eq_true rfl)) dL_law_935 (w_room0 hB)) hS (w_room0 hB) (fun _ _ _ _ _ _ h => False.elim h) (fun v166 M164 H locs hp hM hS => ?_)
                                    refine lv_icmp_eq (tgt := 2847) hx hb dL_law_938 (by decide) (fun hc => ?_) (fun hc => ?_)
                                    · have hp := oIf.t hp hc
                                      exact hB2847 rec23 hrec23 _ _ _ _ _ _ _ _ _ _ _ _ hp hM hS hB (lv_sub hl [0, 1, 2, 3, 4] rfl)
                                    · have hp := oIf.f hp hc
                                      exact hp.elim
                                  · have hp := oIf.f hp hc14
                                    by_cases hc15 : (v2 &&& (63 : Int32)) = (15 : Int32)
                                    · have hp := oIf.t hp hc15
                                      refine lv_tableIn (off := 903) (tgt := 943) hx hb dL_law_40 (by rw [hc15]; decide) (by rw [hc15]; decide) (by rw [hc15]; rfl) (by decide) ?_
                                      refine lv_aload_n hx hb dL_law_943 rfl (lv_at hl 1 rfl) ?_
                                      refine lv_aload_n hx hb dL_law_944 rfl (lv_at hl 0 rfl) ?_
                                      refine lv_iload hx hb dL_law_945 (lv_at hl 4 rfl) ?_
                                      refine lv_iconst (v := 1) hx hb dL_law_947 (by decide) ?_
                                      refine lv_iadd hx hb dL_law_948 ?_
                                      refine x_iald X hC.1 hM dL_law_949 hp (fun v167 hp => ?_)
                                      refine lv_aload_n hx hb dL_law_950 rfl (lv_at hl 3 rfl) ?_
                                      obtain ⟨c169, hc1, hp⟩ := hp
                                      refine x_callI (vx_runSX (As := [.ref x1, .int v167, .ref x3]) (rest := []) X (P_X0_nextToExpire_ok (l := l) hl0 hp) (vx_cwSW 3 hts (lw_SW q2416 q2417 q147 q2418) rfl rfl rfl (by decide +kernel) ⟨Nat.le_of_ble_eq_true rfl, Nat.le_of_ble_eq_true rfl⟩) ⟨wPc.blind, w_pre hC hM hS _⟩ rfl rfl hl.1 rfl (lv_room (Nat.le_of_ble_eq_true rfl)) dL_law_951 (w_room hB hc1)) hS hB hc1 (fun _ _ _ _ _ _ h => False.elim h) (fun v170 M168 H locs hp hM hS hB => ?_)
                                      refine lv_istore (lv' := [(5, .int v170), (0, .ref x0), (1, .ref x1), (2, .ref x2), (3, .ref x3), (4, .int x4)]) hx hb dL_law_954 hl (by decide) rfl (fun ls hl => ?_)
                                      refine lv_aload_n hx hb dL_law_956 rfl (lv_at hl 3 rfl) ?_
                                      refine lv_aload_n hx hb dL_law_957 rfl (lv_at hl 1 rfl) ?_
                                      refine lv_iload hx hb dL_law_958 (lv_at hl 5 rfl) ?_
                                      refine lv_iconst (v := 1) hx hb dL_law_960 (by decide) ?_
                                      refine lv_iadd hx hb dL_law_961 ?_
                                      refine x_iald X hC.1 hM dL_law_962 hp (fun v171 hp => ?_)
                                      obtain ⟨hrec, hp⟩ := hp
                                      refine x_call0I (vx_runV (As := [.int v171]) (rest := []) X (P_X4_nextToExpire_ok (l := l) hl0 hp) (cwV 1 hts (lw_V q3396 q3397 q3398 q178 q3399) rfl rfl rfl (by decide +kernel) ⟨Nat.le_of_ble_eq_true rfl, Nat.le_of_ble_eq_true rfl⟩) ⟨wPc.blind, w_recv hC.1 hM (ci := 3) (q := (RX4, TX4, 28)) rfl hrec, w_pre hC hM hS _⟩ rfl rfl hl.1 rfl (lv_room (Nat.le_of_ble_eq_true rfl)) dL_law_963 (w_room0 hB)) hS (w_room0 hB) (fun _ _ _ _ _ _ h => False.elim h) (fun v174 M172 H locs hp hM hS => ?_)
                                      refine lv_istore (lv' := [(6, .int v174), (5, .int v170), (0, .ref x0), (1, .ref x1), (2, .ref x2), (3, .ref x3), (4, .int x4)]) hx hb dL_law_966 hl (by decide) rfl (fun ls hl => ?_)
                                      refine lv_aload_n hx hb dL_law_968 rfl (lv_at hl 4 rfl) ?_
                                      obtain ⟨hrec, hp⟩ := hp
                                      refine x_call0I (vx_runV (As := []) (rest := []) X (P_X4_thrown_ok (l := l) hl0 hp) (cwV 0 hts (lw_V q3227 q3228 q3229 q178 q3230) rfl rfl rfl (by decide +kernel) ⟨Nat.le_of_ble_eq_true rfl, Nat.le_of_ble_eq_true rfl⟩) ⟨wPc.blind, w_recv hC.1 hM (ci := 3) (q := (RX4, TX4, 28)) rfl hrec, w_pre hC hM hS _⟩ rfl rfl hl.1 rfl (lv_room (Nat.le_of_ble_eq_true rfl)) dL_law_969 (w_room0 hB)) hS (w_room0 hB) (fun _ _ _ _ _ _ h => False.elim h) (fun v177 M175 H locs hp hM hS => ?_)
                                      refine lv_iload hx hb dL_law_972 (lv_at hl 1 rfl) ?_
                                      refine lv_icmp_eq (tgt := 979) hx hb dL_law_974 (by decide) (fun hc => ?_) (fun hc => ?_)
                                      · have hp := oIf.t hp hc
                                        refine lv_iload hx hb dL_law_979 (lv_at hl 1 rfl) ?_
                                        refine lv_if_ne (tgt := 996) hx hb dL_law_981 (by decide) (fun hc => ?_) (fun hc => ?_)
                                        · have hp := oIf.f hp hc
                                          exact hB996 rec23 hrec23 _ _ _ _ _ _ _ _ _ _ _ _ hp hM hS hB (lv_sub hl [2, 3, 4, 5, 6] rfl)
                                        · have hp := oIf.t hp hc
                                          refine lv_aload_n hx hb dL_law_984 rfl (lv_at hl 5 rfl) ?_
                                          refine lv_iconst (v := 0) hx hb dL_law_985 (by decide) ?_
                                          refine x_lald X hC.1 hM dL_law_986 hp (fun v178 hp => ?_)
                                          refine lv_iload hx hb dL_law_987 (lv_at hl 0 rfl) ?_
                                          refine lv_i2l (v := v174.toInt64) hx hb dL_law_989 rfl ?_
                                          refine W.lcmp hx hb dL_law_990 ?_
                                          refine lv_if_eq (tgt := 996) hx hb dL_law_991 (by decide) (fun hc => ?_) (fun hc => ?_)
                                          · have hp := oIf.t hp hc
                                            exact hB996 rec23 hrec23 _ _ _ _ _ _ _ _ _ _ _ _ hp hM hS hB (lv_sub hl [2, 3, 4, 5, 6] rfl)
                                          · have hp := oIf.f hp hc
                                            exact hp.elim
                                      · have hp := oIf.f hp hc
                                        exact hp.elim
                                    · have hp := oIf.f hp hc15
                                      by_cases hc16 : (v2 &&& (63 : Int32)) = (16 : Int32)
                                      · have hp := oIf.t hp hc16
                                        refine lv_tableIn (off := 959) (tgt := 999) hx hb dL_law_40 (by rw [hc16]; decide) (by rw [hc16]; decide) (by rw [hc16]; rfl) (by decide) ?_
                                        refine lv_aload_n hx hb dL_law_999 rfl (lv_at hl 1 rfl) ?_
                                        refine lv_aload_n hx hb dL_law_1000 rfl (lv_at hl 0 rfl) ?_
                                        refine lv_iload hx hb dL_law_1001 (lv_at hl 4 rfl) ?_
                                        refine lv_iconst (v := 1) hx hb dL_law_1003 (by decide) ?_
                                        refine lv_iadd hx hb dL_law_1004 ?_
                                        refine x_iald X hC.1 hM dL_law_1005 hp (fun v179 hp => ?_)
                                        refine lv_aload_n hx hb dL_law_1006 rfl (lv_at hl 0 rfl) ?_
                                        refine lv_iload hx hb dL_law_1007 (lv_at hl 4 rfl) ?_
                                        refine lv_iconst (v := 2) hx hb dL_law_1009 (by decide) ?_
                                        refine lv_iadd hx hb dL_law_1010 ?_
                                        refine x_iald X hC.1 hM dL_law_1011 hp (fun v180 hp => ?_)
                                        refine lv_aload_n hx hb dL_law_1012 rfl (lv_at hl 3 rfl) ?_
                                        obtain ⟨c182, hc1, hp⟩ := hp
                                        refine x_callI (vx_runSX (As := [.ref x1, .int v179, .int v180, .ref x3]) (rest := []) X (P_X0_visit_ok (l := l) hl0 hp) (vx_cwSW 4 hts (lw_SW q2423 q2424 q147 q2425) rfl rfl rfl (by decide +kernel) ⟨Nat.le_of_ble_eq_true rfl, Nat.le_of_ble_eq_true rfl⟩) ⟨wPc.blind, w_pre hC hM hS _⟩ rfl rfl hl.1 rfl (lv_room (Nat.le_of_ble_eq_true rfl)) dL_law_1013 (w_room hB hc1)) hS hB hc1 (fun _ _ _ _ _ _ h => False.elim h) (fun v183 M181 H locs hp hM hS hB => ?_)
                                        refine lv_istore (lv' := [(5, .int v183), (0, .ref x0), (1, .ref x1), (2, .ref x2), (3, .ref x3), (4, .int x4)]) hx hb dL_law_1016 hl (by decide) rfl (fun ls hl => ?_)
                                        refine lv_aload_n hx hb dL_law_1018 rfl (lv_at hl 3 rfl) ?_
                                        refine lv_aload_n hx hb dL_law_1019 rfl (lv_at hl 1 rfl) ?_
                                        refine lv_iload hx hb dL_law_1020 (lv_at hl 5 rfl) ?_
                                        refine lv_iconst (v := 1) hx hb dL_law_1022 (by decide) ?_
                                        refine lv_iadd hx hb dL_law_1023 ?_
                                        refine x_iald X hC.1 hM dL_law_1024 hp (fun v184 hp => ?_)
                                        refine lv_aload_n hx hb dL_law_1025 rfl (lv_at hl 1 rfl) ?_
                                        refine lv_iload hx hb dL_law_1026 (lv_at hl 5 rfl) ?_
                                        refine lv_iconst (v := 2) hx hb dL_law_1028 (by decide) ?_
                                        refine lv_iadd hx hb dL_law_1029 ?_
                                        refine x_iald X hC.1 hM dL_law_1030 hp (fun v185 hp => ?_)
                                        obtain ⟨hrec, hp⟩ := hp
                                        refine x_call0I (vx_runV (As := [.int v184, .int v185]) (rest := []) X (P_X4_visit_ok (l := l) hl0 hp) (cwV 2 hts (lw_V q3440 q3441 q3442 q178 q3443) rfl rfl rfl (by decide +kernel) ⟨Nat.le_of_ble_eq_true rfl, Nat.le_of_ble_eq_true rfl⟩) ⟨wPc.blind, w_recv hC.1 hM (ci := 3) (q := (RX4, TX4, 28)) rfl hrec, w_pre hC hM hS _⟩ rfl rfl hl.1 rfl (lv_room (Nat.le_of_ble_eq_true rfl)) dL_law_1031 (w_room0 hB)) hS (w_room0 hB) (fun _ _ _ _ _ _ h => False.elim h) (fun v188 M186 H locs hp hM hS => ?_)
                                        refine lv_istore (lv' := [(6, .int v188), (5, .int v183), (0, .ref x0), (1, .ref x1), (2, .ref x2), (3, .ref x3), (4, .int x4)]) hx hb dL_law_1034 hl (by decide) rfl (fun ls hl => ?_)
                                        refine lv_aload_n hx hb dL_law_1036 rfl (lv_at hl 4 rfl) ?_
                                        obtain ⟨hrec, hp⟩ := hp
                                        refine x_call0I (vx_runV (As := []) (rest := []) X (P_X4_thrown_ok (l := l) hl0 hp) (cwV 0 hts (lw_V q3227 q3228 q3229 q178 q3230) rfl rfl rfl (by decide +kernel) ⟨Nat.le_of_ble_eq_true rfl, Nat.le_of_ble_eq_true rfl⟩) ⟨wPc.blind, w_recv hC.1 hM (ci := 3) (q := (RX4, TX4, 28)) rfl hrec, w_pre hC hM hS _⟩ rfl rfl hl.1 rfl (lv_room (Nat.le_of_ble_eq_true rfl)) dL_law_1037 (w_room0 hB)) hS (w_room0 hB) (fun _ _ _ _ _ _ h => False.elim h) (fun v191 M189 H locs hp hM hS => ?_)
                                        refine lv_iload hx hb dL_law_1040 (lv_at hl 1 rfl) ?_
                                        refine lv_icmp_eq (tgt := 1047) hx hb dL_law_1042 (by decide) (fun hc => ?_) (fun hc => ?_)
                                        · have hp := oIf.t hp hc
                                          refine lv_iload hx hb dL_law_1047 (lv_at hl 1 rfl) ?_
                                          refine lv_if_ne (tgt := 1064) hx hb dL_law_1049 (by decide) (fun hc => ?_) (fun hc => ?_)
                                          · have hp := oIf.f hp hc
                                            exact hB1064 rec23 hrec23 _ _ _ _ _ _ _ _ _ _ _ _ hp hM hS hB (lv_sub hl [2, 3, 4, 5, 6] rfl)
                                          · have hp := oIf.t hp hc
                                            refine lv_aload_n hx hb dL_law_1052 rfl (lv_at hl 5 rfl) ?_
                                            refine lv_iconst (v := 0) hx hb dL_law_1053 (by decide) ?_
                                            refine x_lald X hC.1 hM dL_law_1054 hp (fun v192 hp => ?_)
                                            refine lv_iload hx hb dL_law_1055 (lv_at hl 0 rfl) ?_
                                            refine lv_i2l (v := v188.toInt64) hx hb dL_law_1057 rfl ?_
                                            refine W.lcmp hx hb dL_law_1058 ?_
                                            refine lv_if_eq (tgt := 1064) hx hb dL_law_1059 (by decide) (fun hc => ?_) (fun hc => ?_)
                                            · have hp := oIf.t hp hc
                                              exact hB1064 rec23 hrec23 _ _ _ _ _ _ _ _ _ _ _ _ hp hM hS hB (lv_sub hl [2, 3, 4, 5, 6] rfl)
                                            · have hp := oIf.f hp hc
                                              exact hp.elim
                                        · have hp := oIf.f hp hc
                                          exact hp.elim
                                      · have hp := oIf.f hp hc16
                                        by_cases hc17 : (v2 &&& (63 : Int32)) = (17 : Int32)
                                        · have hp := oIf.t hp hc17
                                          refine lv_tableIn (off := 1027) (tgt := 1067) hx hb dL_law_40 (by rw [hc17]; decide) (by rw [hc17]; decide) (by rw [hc17]; rfl) (by decide) ?_
                                          refine lv_aload_n hx hb dL_law_1067 rfl (lv_at hl 1 rfl) ?_
                                          refine lv_aload_n hx hb dL_law_1068 rfl (lv_at hl 0 rfl) ?_
                                          refine lv_iload hx hb dL_law_1069 (lv_at hl 4 rfl) ?_
                                          refine lv_iconst (v := 1) hx hb dL_law_1071 (by decide) ?_
                                          refine lv_iadd hx hb dL_law_1072 ?_
                                          refine x_iald X hC.1 hM dL_law_1073 hp (fun v193 hp => ?_)
                                          refine lv_aload_n hx hb dL_law_1074 rfl (lv_at hl 0 rfl) ?_
                                          refine lv_iload hx hb dL_law_1075 (lv_at hl 4 rfl) ?_
                                          refine lv_iconst (v := 2) hx hb dL_law_1077 (by decide) ?_
                                          refine lv_iadd hx hb dL_law_1078 ?_
                                          refine x_iald X hC.1 hM dL_law_1079 hp (fun v194 hp => ?_)
                                          refine lv_aload_n hx hb dL_law_1080 rfl (lv_at hl 3 rfl) ?_
                                          obtain ⟨c196, hc1, hp⟩ := hp
                                          refine x_callI (vx_runSX (As := [.ref x1, .int v193, .int v194, .ref x3]) (rest := []) X (P_X0_car_ok (l := l) hl0 hp) (vx_cwSW 4 hts (lw_SW q2435 q2436 q147 q2437) rfl rfl rfl (by decide +kernel) ⟨Nat.le_of_ble_eq_true rfl, Nat.le_of_ble_eq_true rfl⟩) ⟨wPc.blind, w_pre hC hM hS _⟩ rfl rfl hl.1 rfl (lv_room (Nat.le_of_ble_eq_true rfl)) dL_law_1081 (w_room hB hc1)) hS hB hc1 (fun _ _ _ _ _ _ h => False.elim h) (fun v197 M195 H locs hp hM hS hB => ?_)
                                          refine lv_istore (lv' := [(5, .int v197), (0, .ref x0), (1, .ref x1), (2, .ref x2), (3, .ref x3), (4, .int x4)]) hx hb dL_law_1084 hl (by decide) rfl (fun ls hl => ?_)
                                          refine lv_aload_n hx hb dL_law_1086 rfl (lv_at hl 3 rfl) ?_
                                          refine lv_aload_n hx hb dL_law_1087 rfl (lv_at hl 1 rfl) ?_
                                          refine lv_iload hx hb dL_law_1088 (lv_at hl 5 rfl) ?_
                                          refine lv_iconst (v := 1) hx hb dL_law_1090 (by decide) ?_
                                          refine lv_iadd hx hb dL_law_1091 ?_
                                          refine x_iald X hC.1 hM dL_law_1092 hp (fun v198 hp => ?_)
                                          refine lv_aload_n hx hb dL_law_1093 rfl (lv_at hl 1 rfl) ?_
                                          refine lv_iload hx hb dL_law_1094 (lv_at hl 5 rfl) ?_
                                          refine lv_iconst (v := 2) hx hb dL_law_1096 (by decide) ?_
                                          refine lv_iadd hx hb dL_law_1097 ?_
                                          refine x_iald X hC.1 hM dL_law_1098 hp (fun v199 hp => ?_)
                                          obtain ⟨hrec, hp⟩ := hp
                                          refine x_call0I (vx_runV (As := [.int v198, .int v199]) (rest := []) X (P_X4_car_ok (l := l) hl0 hp) (cwV 2 hts (lw_V q3477 q3478 q3479 q178 q3480) rfl rfl rfl (by decide +kernel) ⟨Nat.le_of_ble_eq_true rfl, Nat.le_of_ble_eq_true rfl⟩) ⟨wPc.blind, w_recv hC.1 hM (ci := 3) (q := (RX4, TX4, 28)) rfl hrec, w_pre hC hM hS _⟩ rfl rfl hl.1 rfl (lv_room (Nat.le_of_ble_eq_true rfl)) dL_law_1099 (w_room0 hB)) hS (w_room0 hB) (fun _ _ _ _ _ _ h => False.elim h) (fun v202 M200 H locs hp hM hS => ?_)
                                          refine lv_istore (lv' := [(6, .int v202), (5, .int v197), (0, .ref x0), (1, .ref x1), (2, .ref x2), (3, .ref x3), (4, .int x4)]) hx hb dL_law_1102 hl (by decide) rfl (fun ls hl => ?_)
                                          refine lv_aload_n hx hb dL_law_1104 rfl (lv_at hl 4 rfl) ?_
                                          obtain ⟨hrec, hp⟩ := hp
                                          refine x_call0I (vx_runV (As := []) (rest := []) X (P_X4_thrown_ok (l := l) hl0 hp) (cwV 0 hts (lw_V q3227 q3228 q3229 q178 q3230) rfl rfl rfl (by decide +kernel) ⟨Nat.le_of_ble_eq_true rfl, Nat.le_of_ble_eq_true rfl⟩) ⟨wPc.blind, w_recv hC.1 hM (ci := 3) (q := (RX4, TX4, 28)) rfl hrec, w_pre hC hM hS _⟩ rfl rfl hl.1 rfl (lv_room (Nat.le_of_ble_eq_true rfl)) dL_law_1105 (w_room0 hB)) hS (w_room0 hB) (fun _ _ _ _ _ _ h => False.elim h) (fun v205 M203 H locs hp hM hS => ?_)
                                          refine lv_iload hx hb dL_law_1108 (lv_at hl 1 rfl) ?_
                                          refine lv_icmp_eq (tgt := 1115) hx hb dL_law_1110 (by decide) (fun hc => ?_) (fun hc => ?_)
                                          · have hp := oIf.t hp hc
                                            refine lv_iload hx hb dL_law_1115 (lv_at hl 1 rfl) ?_
                                            refine lv_if_ne (tgt := 1132) hx hb dL_law_1117 (by decide) (fun hc => ?_) (fun hc => ?_)
                                            · have hp := oIf.f hp hc
                                              exact hB1132 rec23 hrec23 _ _ _ _ _ _ _ _ _ _ _ _ hp hM hS hB (lv_sub hl [2, 3, 4, 5, 6] rfl)
                                            · have hp := oIf.t hp hc
                                              refine lv_aload_n hx hb dL_law_1120 rfl (lv_at hl 5 rfl) ?_
                                              refine lv_iconst (v := 0) hx hb dL_law_1121 (by decide) ?_
                                              refine x_lald X hC.1 hM dL_law_1122 hp (fun v206 hp => ?_)
                                              refine lv_iload hx hb dL_law_1123 (lv_at hl 0 rfl) ?_
                                              refine lv_i2l (v := v202.toInt64) hx hb dL_law_1125 rfl ?_
                                              refine W.lcmp hx hb dL_law_1126 ?_
                                              refine lv_if_eq (tgt := 1132) hx hb dL_law_1127 (by decide) (fun hc => ?_) (fun hc => ?_)
                                              · have hp := oIf.t hp hc
                                                exact hB1132 rec23 hrec23 _ _ _ _ _ _ _ _ _ _ _ _ hp hM hS hB (lv_sub hl [2, 3, 4, 5, 6] rfl)
                                              · have hp := oIf.f hp hc
                                                exact hp.elim
                                          · have hp := oIf.f hp hc
                                            exact hp.elim
                                        · have hp := oIf.f hp hc17
                                          by_cases hc18 : (v2 &&& (63 : Int32)) = (18 : Int32)
                                          · have hp := oIf.t hp hc18
                                            refine lv_tableIn (off := 1095) (tgt := 1135) hx hb dL_law_40 (by rw [hc18]; decide) (by rw [hc18]; decide) (by rw [hc18]; rfl) (by decide) ?_
                                            refine lv_aload_n hx hb dL_law_1135 rfl (lv_at hl 1 rfl) ?_
                                            refine lv_aload_n hx hb dL_law_1136 rfl (lv_at hl 0 rfl) ?_
                                            refine lv_iload hx hb dL_law_1137 (lv_at hl 4 rfl) ?_
                                            refine lv_iconst (v := 1) hx hb dL_law_1139 (by decide) ?_
                                            refine lv_iadd hx hb dL_law_1140 ?_
                                            refine x_iald X hC.1 hM dL_law_1141 hp (fun v207 hp => ?_)
                                            obtain ⟨hrec, hp⟩ := hp
                                            obtain ⟨c209, hc1, hp⟩ := hp
                                            refine x_callI (vx_runV (As := [.int v207]) (rest := []) X (P_X1_streetOf_ok (l := l) hl0 hp) (cwV 1 hts (lw_V q1691 q1692 q1693 q148 q1694) rfl rfl rfl (by decide +kernel) ⟨Nat.le_of_ble_eq_true rfl, Nat.le_of_ble_eq_true rfl⟩) ⟨wPc.blind, w_recv hC.1 hM (ci := 0) (q := (RX1, TX1, 8)) rfl hrec, w_pre hC hM hS _⟩ rfl rfl hl.1 rfl (lv_room (Nat.le_of_ble_eq_true rfl)) dL_law_1142 (w_room hB hc1)) hS hB hc1 (fun _ _ _ _ _ _ h => False.elim h) (fun v210 M208 H locs hp hM hS hB => ?_)
                                            refine lv_aload_n hx hb dL_law_1145 rfl (lv_at hl 2 rfl) ?_
                                            refine lv_aload_n hx hb dL_law_1146 rfl (lv_at hl 0 rfl) ?_
                                            refine lv_iload hx hb dL_law_1147 (lv_at hl 4 rfl) ?_
                                            refine lv_iconst (v := 1) hx hb dL_law_1149 (by decide) ?_
                                            refine lv_iadd hx hb dL_law_1150 ?_
                                            refine x_iald X hC.1 hM dL_law_1151 hp (fun v211 hp => ?_)
                                            obtain ⟨hrec, hp⟩ := hp
                                            refine x_call0I (vx_runV (As := [.int v211]) (rest := [.int v210]) X (P_X4_streetOf_ok (l := l) hl0 hp) (cwV 1 hts (lw_V q3481 q3482 q3483 q178 q3484) rfl rfl rfl (by decide +kernel) ⟨Nat.le_of_ble_eq_true rfl, Nat.le_of_ble_eq_true rfl⟩) ⟨wPc.blind, w_recv hC.1 hM (ci := 3) (q := (RX4, TX4, 28)) rfl hrec, w_pre hC hM hS _⟩ rfl rfl hl.1 rfl (lv_room (Nat.le_of_ble_eq_true rfl)) dL_law_1152 (w_room0 hB)) hS (w_room0 hB) (fun _ _ _ _ _ _ h => False.elim h) (fun v214 M212 H locs hp hM hS => ?_)
                                            refine lv_icmp_eq (tgt := 2847) hx hb dL_law_1155 (by decide) (fun hc => ?_) (fun hc => ?_)
                                            · have hp := oIf.t hp hc
                                              exact hB2847 rec23 hrec23 _ _ _ _ _ _ _ _ _ _ _ _ hp hM hS hB (lv_sub hl [0, 1, 2, 3, 4] rfl)
                                            · have hp := oIf.f hp hc
                                              exact hp.elim
                                          · have hp := oIf.f hp hc18
                                            by_cases hc19 : (v2 &&& (63 : Int32)) = (19 : Int32)
                                            · have hp := oIf.t hp hc19
                                              refine lv_tableIn (off := 1120) (tgt := 1160) hx hb dL_law_40 (by rw [hc19]; decide) (by rw [hc19]; decide) (by rw [hc19]; rfl) (by decide) ?_
                                              refine lv_aload_n hx hb dL_law_1160 rfl (lv_at hl 1 rfl) ?_
                                              refine lv_aload_n hx hb dL_law_1161 rfl (lv_at hl 0 rfl) ?_
                                              refine lv_iload hx hb dL_law_1162 (lv_at hl 4 rfl) ?_
                                              refine lv_iconst (v := 1) hx hb dL_law_1164 (by decide) ?_
                                              refine lv_iadd hx hb dL_law_1165 ?_
                                              refine x_iald X hC.1 hM dL_law_1166 hp (fun v215 hp => ?_)
                                              refine lv_aload_n hx hb dL_law_1167 rfl (lv_at hl 0 rfl) ?_
                                              refine lv_iload hx hb dL_law_1168 (lv_at hl 4 rfl) ?_
                                              refine lv_iconst (v := 2) hx hb dL_law_1170 (by decide) ?_
                                              refine lv_iadd hx hb dL_law_1171 ?_
                                              refine x_iald X hC.1 hM dL_law_1172 hp (fun v216 hp => ?_)
                                              refine lv_aload_n hx hb dL_law_1173 rfl (lv_at hl 3 rfl) ?_
                                              obtain ⟨c218, hc1, hp⟩ := hp
                                              refine x_callI (vx_runSX (As := [.ref x1, .int v215, .int v216, .ref x3]) (rest := []) X (P_X0_rule_ok (l := l) hl0 hp) (vx_cwSW 4 hts (lw_SW q2444 q2445 q147 q2446) rfl rfl rfl (by decide +kernel) ⟨Nat.le_of_ble_eq_true rfl, Nat.le_of_ble_eq_true rfl⟩) ⟨wPc.blind, w_pre hC hM hS _⟩ rfl rfl hl.1 rfl (lv_room (Nat.le_of_ble_eq_true rfl)) dL_law_1174 (w_room hB hc1)) hS hB hc1 (fun _ _ _ _ _ _ h => False.elim h) (fun v219 M217 H locs hp hM hS hB => ?_)
                                              refine lv_istore (lv' := [(5, .int v219), (0, .ref x0), (1, .ref x1), (2, .ref x2), (3, .ref x3), (4, .int x4)]) hx hb dL_law_1177 hl (by decide) rfl (fun ls hl => ?_)
                                              refine lv_aload_n hx hb dL_law_1179 rfl (lv_at hl 3 rfl) ?_
                                              refine lv_aload_n hx hb dL_law_1180 rfl (lv_at hl 1 rfl) ?_
                                              refine lv_iload hx hb dL_law_1181 (lv_at hl 5 rfl) ?_
                                              refine lv_iconst (v := 1) hx hb dL_law_1183 (by decide) ?_
                                              refine lv_iadd hx hb dL_law_1184 ?_
                                              refine x_iald X hC.1 hM dL_law_1185 hp (fun v220 hp => ?_)
                                              refine lv_aload_n hx hb dL_law_1186 rfl (lv_at hl 1 rfl) ?_
                                              refine lv_iload hx hb dL_law_1187 (lv_at hl 5 rfl) ?_
                                              refine lv_iconst (v := 2) hx hb dL_law_1189 (by decide) ?_
                                              refine lv_iadd hx hb dL_law_1190 ?_
                                              refine x_iald X hC.1 hM dL_law_1191 hp (fun v221 hp => ?_)
                                              obtain ⟨hrec, hp⟩ := hp
                                              refine x_call0I (vx_runV (As := [.int v220, .int v221]) (rest := []) X (P_X4_rule_ok (l := l) hl0 hp) (cwV 2 hts (lw_V q3485 q3486 q3487 q178 q3488) rfl rfl rfl (by decide +kernel) ⟨Nat.le_of_ble_eq_true rfl, Nat.le_of_ble_eq_true rfl⟩) ⟨wPc.blind, w_recv hC.1 hM (ci := 3) (q := (RX4, TX4, 28)) rfl hrec, w_pre hC hM hS _⟩ rfl rfl hl.1 rfl (lv_room (Nat.le_of_ble_eq_true rfl)) dL_law_1192 (w_room0 hB)) hS (w_room0 hB) (fun _ _ _ _ _ _ h => False.elim h) (fun v224 M222 H locs hp hM hS => ?_)
                                              refine lv_istore (lv' := [(6, .int v224), (5, .int v219), (0, .ref x0), (1, .ref x1), (2, .ref x2), (3, .ref x3), (4, .int x4)]) hx hb dL_law_1195 hl (by decide) rfl (fun ls hl => ?_)
                                              refine lv_aload_n hx hb dL_law_1197 rfl (lv_at hl 4 rfl) ?_
                                              obtain ⟨hrec, hp⟩ := hp
                                              refine x_call0I (vx_runV (As := []) (rest := []) X (P_X4_thrown_ok (l := l) hl0 hp) (cwV 0 hts (lw_V q3227 q3228 q3229 q178 q3230) rfl rfl rfl (by decide +kernel) ⟨Nat.le_of_ble_eq_true rfl, Nat.le_of_ble_eq_true rfl⟩) ⟨wPc.blind, w_recv hC.1 hM (ci := 3) (q := (RX4, TX4, 28)) rfl hrec, w_pre hC hM hS _⟩ rfl rfl hl.1 rfl (lv_room (Nat.le_of_ble_eq_true rfl)) dL_law_1198 (w_room0 hB)) hS (w_room0 hB) (fun _ _ _ _ _ _ h => False.elim h) (fun v227 M225 H locs hp hM hS => ?_)
                                              refine lv_iload hx hb dL_law_1201 (lv_at hl 1 rfl) ?_
                                              refine lv_icmp_eq (tgt := 1208) hx hb dL_law_1203 (by decide) (fun hc => ?_) (fun hc => ?_)
                                              · have hp := oIf.t hp hc
                                                refine lv_iload hx hb dL_law_1208 (lv_at hl 1 rfl) ?_
                                                refine lv_if_ne (tgt := 1225) hx hb dL_law_1210 (by decide) (fun hc => ?_) (fun hc => ?_)
                                                · have hp := oIf.f hp hc
                                                  exact hB1225 rec23 hrec23 _ _ _ _ _ _ _ _ _ _ _ _ hp hM hS hB (lv_sub hl [2, 3, 4, 5, 6] rfl)
                                                · have hp := oIf.t hp hc
                                                  refine lv_aload_n hx hb dL_law_1213 rfl (lv_at hl 5 rfl) ?_
                                                  refine lv_iconst (v := 0) hx hb dL_law_1214 (by decide) ?_
                                                  refine x_lald X hC.1 hM dL_law_1215 hp (fun v228 hp => ?_)
                                                  refine lv_iload hx hb dL_law_1216 (lv_at hl 0 rfl) ?_
                                                  refine lv_i2l (v := v224.toInt64) hx hb dL_law_1218 rfl ?_
                                                  refine W.lcmp hx hb dL_law_1219 ?_
                                                  refine lv_if_eq (tgt := 1225) hx hb dL_law_1220 (by decide) (fun hc => ?_) (fun hc => ?_)
                                                  · have hp := oIf.t hp hc
                                                    exact hB1225 rec23 hrec23 _ _ _ _ _ _ _ _ _ _ _ _ hp hM hS hB (lv_sub hl [2, 3, 4, 5, 6] rfl)
                                                  · have hp := oIf.f hp hc
                                                    exact hp.elim
                                              · have hp := oIf.f hp hc
                                                exact hp.elim
                                            · have hp := oIf.f hp hc19
                                              by_cases hc20 : (v2 &&& (63 : Int32)) = (20 : Int32)
                                              · have hp := oIf.t hp hc20
                                                refine lv_tableIn (off := 1188) (tgt := 1228) hx hb dL_law_40 (by rw [hc20]; decide) (by rw [hc20]; decide) (by rw [hc20]; rfl) (by decide) ?_
                                                refine lv_aload_n hx hb dL_law_1228 rfl (lv_at hl 1 rfl) ?_
                                                refine lv_aload_n hx hb dL_law_1229 rfl (lv_at hl 0 rfl) ?_
                                                refine lv_iload hx hb dL_law_1230 (lv_at hl 4 rfl) ?_
                                                refine lv_iconst (v := 1) hx hb dL_law_1232 (by decide) ?_
                                                refine lv_iadd hx hb dL_law_1233 ?_
                                                refine x_iald X hC.1 hM dL_law_1234 hp (fun v229 hp => ?_)
                                                refine lv_aload_n hx hb dL_law_1235 rfl (lv_at hl 3 rfl) ?_
                                                obtain ⟨c231, hc1, hp⟩ := hp
                                                refine x_callI (vx_runSX (As := [.ref x1, .int v229, .ref x3]) (rest := []) X (P_X0_bestStreet_ok (l := l) hl0 hp) (vx_cwSW 3 hts (lw_SW q2498 q2499 q147 q2500) rfl rfl rfl (by decide +kernel) ⟨Nat.le_of_ble_eq_true rfl, Nat.le_of_ble_eq_true rfl⟩) ⟨wPc.blind, w_pre hC hM hS _⟩ rfl rfl hl.1 rfl (lv_room (Nat.le_of_ble_eq_true rfl)) dL_law_1236 (w_room hB hc1)) hS hB hc1 (fun _ _ _ _ _ _ h => False.elim h) (fun v232 M230 H locs hp hM hS hB => ?_)
                                                refine lv_istore (lv' := [(5, .int v232), (0, .ref x0), (1, .ref x1), (2, .ref x2), (3, .ref x3), (4, .int x4)]) hx hb dL_law_1239 hl (by decide) rfl (fun ls hl => ?_)
                                                refine lv_aload_n hx hb dL_law_1241 rfl (lv_at hl 3 rfl) ?_
                                                refine lv_aload_n hx hb dL_law_1242 rfl (lv_at hl 1 rfl) ?_
                                                refine lv_iload hx hb dL_law_1243 (lv_at hl 5 rfl) ?_
                                                refine lv_iconst (v := 1) hx hb dL_law_1245 (by decide) ?_
                                                refine lv_iadd hx hb dL_law_1246 ?_
                                                refine x_iald X hC.1 hM dL_law_1247 hp (fun v233 hp => ?_)
                                                obtain ⟨hrec, hp⟩ := hp
                                                refine x_call0I (vx_runV (As := [.int v233]) (rest := []) X (P_X4_bestStreet_ok (l := l) hl0 hp) (cwV 1 hts (lw_V q3517 q3518 q3519 q178 q3520) rfl rfl rfl (by decide +kernel) ⟨Nat.le_of_ble_eq_true rfl, Nat.le_of_ble_eq_true rfl⟩) ⟨wPc.blind, w_recv hC.1 hM (ci := 3) (q := (RX4, TX4, 28)) rfl hrec, w_pre hC hM hS _⟩ rfl rfl hl.1 rfl (lv_room (Nat.le_of_ble_eq_true rfl)) dL_law_1248 (w_room0 hB)) hS (w_room0 hB) (fun _ _ _ _ _ _ h => False.elim h) (fun v236 M234 H locs hp hM hS => ?_)
                                                refine lv_istore (lv' := [(6, .int v236), (5, .int v232), (0, .ref x0), (1, .ref x1), (2, .ref x2), (3, .ref x3), (4, .int x4)]) hx hb dL_law_1251 hl (by decide) rfl (fun ls hl => ?_)
                                                refine lv_aload_n hx hb dL_law_1253 rfl (lv_at hl 4 rfl) ?_
                                                obtain ⟨hrec, hp⟩ := hp
                                                refine x_call0I (vx_runV (As := []) (rest := []) X (P_X4_thrown_ok (l := l) hl0 hp) (cwV 0 hts (lw_V q3227 q3228 q3229 q178 q3230) rfl rfl rfl (by decide +kernel) ⟨Nat.le_of_ble_eq_true rfl, Nat.le_of_ble_eq_true rfl⟩) ⟨wPc.blind, w_recv hC.1 hM (ci := 3) (q := (RX4, TX4, 28)) rfl hrec, w_pre hC hM hS _⟩ rfl rfl hl.1 rfl (lv_room (Nat.le_of_ble_eq_true rfl)) dL_law_1254 (w_room0 hB)) hS (w_room0 hB) (fun _ _ _ _ _ _ h => False.elim h) (fun v239 M237 H locs hp hM hS => ?_)
                                                refine lv_iload hx hb dL_law_1257 (lv_at hl 1 rfl) ?_
                                                refine lv_icmp_eq (tgt := 1264) hx hb dL_law_1259 (by decide) (fun hc => ?_) (fun hc => ?_)
                                                · have hp := oIf.t hp hc
                                                  refine lv_iload hx hb dL_law_1264 (lv_at hl 1 rfl) ?_
                                                  refine lv_if_ne (tgt := 1281) hx hb dL_law_1266 (by decide) (fun hc => ?_) (fun hc => ?_)
                                                  · have hp := oIf.f hp hc
                                                    exact hB1281 rec23 hrec23 _ _ _ _ _ _ _ _ _ _ _ _ hp hM hS hB (lv_sub hl [2, 3, 4, 5, 6] rfl)
                                                  · have hp := oIf.t hp hc
                                                    refine lv_aload_n hx hb dL_law_1269 rfl (lv_at hl 5 rfl) ?_
                                                    refine lv_iconst (v := 0) hx hb dL_law_1270 (by decide) ?_
                                                    refine x_lald X hC.1 hM dL_law_1271 hp (fun v240 hp => ?_)
                                                    refine lv_iload hx hb dL_law_1272 (lv_at hl 0 rfl) ?_
                                                    refine lv_i2l (v := v236.toInt64) hx hb dL_law_1274 rfl ?_
                                                    refine W.lcmp hx hb dL_law_1275 ?_
                                                    refine lv_if_eq (tgt := 1281) hx hb dL_law_1276 (by decide) (fun hc => ?_) (fun hc => ?_)
                                                    · have hp := oIf.t hp hc
                                                      exact hB1281 rec23 hrec23 _ _ _ _ _ _ _ _ _ _ _ _ hp hM hS hB (lv_sub hl [2, 3, 4, 5, 6] rfl)
                                                    · have hp := oIf.f hp hc
                                                      exact hp.elim
                                                · have hp := oIf.f hp hc
                                                  exact hp.elim
                                              · have hp := oIf.f hp hc20
                                                by_cases hc21 : (v2 &&& (63 : Int32)) = (21 : Int32)
                                                · have hp := oIf.t hp hc21
                                                  refine lv_tableIn (off := 1244) (tgt := 1284) hx hb dL_law_40 (by rw [hc21]; decide) (by rw [hc21]; decide) (by rw [hc21]; rfl) (by decide) ?_
                                                  refine lv_aload_n hx hb dL_law_1284 rfl (lv_at hl 1 rfl) ?_
                                                  refine lv_aload_n hx hb dL_law_1285 rfl (lv_at hl 0 rfl) ?_
                                                  refine lv_iload hx hb dL_law_1286 (lv_at hl 4 rfl) ?_
                                                  refine lv_iconst (v := 1) hx hb dL_law_1288 (by decide) ?_
                                                  refine lv_iadd hx hb dL_law_1289 ?_
                                                  refine x_iald X hC.1 hM dL_law_1290 hp (fun v241 hp => ?_)
                                                  refine lv_aload_n hx hb dL_law_1291 rfl (lv_at hl 0 rfl) ?_
                                                  refine lv_iload hx hb dL_law_1292 (lv_at hl 4 rfl) ?_
                                                  refine lv_iconst (v := 2) hx hb dL_law_1294 (by decide) ?_
                                                  refine lv_iadd hx hb dL_law_1295 ?_
                                                  refine x_iald X hC.1 hM dL_law_1296 hp (fun v242 hp => ?_)
                                                  refine lv_aload_n hx hb dL_law_1297 rfl (lv_at hl 3 rfl) ?_
                                                  obtain ⟨c244, hc1, hp⟩ := hp
                                                  refine x_callI (vx_runSX (As := [.ref x1, .int v241, .int v242, .ref x3]) (rest := []) X (P_X0_fine_ok (l := l) hl0 hp) (vx_cwSW 4 hts (lw_SW q2511 q2512 q147 q2513) rfl rfl rfl (by decide +kernel) ⟨Nat.le_of_ble_eq_true rfl, Nat.le_of_ble_eq_true rfl⟩) ⟨wPc.blind, w_pre hC hM hS _⟩ rfl rfl hl.1 rfl (lv_room (Nat.le_of_ble_eq_true rfl)) dL_law_1298 (w_room hB hc1)) hS hB hc1 (fun _ _ _ _ _ _ h => False.elim h) (fun v245 M243 H locs hp hM hS hB => ?_)
                                                  refine lv_istore (lv' := [(5, .int v245), (0, .ref x0), (1, .ref x1), (2, .ref x2), (3, .ref x3), (4, .int x4)]) hx hb dL_law_1301 hl (by decide) rfl (fun ls hl => ?_)
                                                  refine lv_aload_n hx hb dL_law_1303 rfl (lv_at hl 3 rfl) ?_
                                                  refine lv_aload_n hx hb dL_law_1304 rfl (lv_at hl 1 rfl) ?_
                                                  refine lv_iload hx hb dL_law_1305 (lv_at hl 5 rfl) ?_
                                                  refine lv_iconst (v := 1) hx hb dL_law_1307 (by decide) ?_
                                                  refine lv_iadd hx hb dL_law_1308 ?_
                                                  refine x_iald X hC.1 hM dL_law_1309 hp (fun v246 hp => ?_)
                                                  refine lv_aload_n hx hb dL_law_1310 rfl (lv_at hl 1 rfl) ?_
                                                  refine lv_iload hx hb dL_law_1311 (lv_at hl 5 rfl) ?_
                                                  refine lv_iconst (v := 2) hx hb dL_law_1313 (by decide) ?_
                                                  refine lv_iadd hx hb dL_law_1314 ?_
                                                  refine x_iald X hC.1 hM dL_law_1315 hp (fun v247 hp => ?_)
                                                  obtain ⟨hrec, hp⟩ := hp
                                                  refine x_call0I (vx_runV (As := [.int v246, .int v247]) (rest := []) X (P_X4_fine_ok (l := l) hl0 hp) (cwV 2 hts (lw_V q3549 q3550 q3551 q178 q3552) rfl rfl rfl (by decide +kernel) ⟨Nat.le_of_ble_eq_true rfl, Nat.le_of_ble_eq_true rfl⟩) ⟨wPc.blind, w_recv hC.1 hM (ci := 3) (q := (RX4, TX4, 28)) rfl hrec, w_pre hC hM hS _⟩ rfl rfl hl.1 rfl (lv_room (Nat.le_of_ble_eq_true rfl)) dL_law_1316 (w_room0 hB)) hS (w_room0 hB) (fun _ _ _ _ _ _ h => False.elim h) (fun v250 M248 H locs hp hM hS => ?_)
                                                  refine lv_istore (lv' := [(6, .int v250), (5, .int v245), (0, .ref x0), (1, .ref x1), (2, .ref x2), (3, .ref x3), (4, .int x4)]) hx hb dL_law_1319 hl (by decide) rfl (fun ls hl => ?_)
                                                  refine lv_aload_n hx hb dL_law_1321 rfl (lv_at hl 4 rfl) ?_
                                                  obtain ⟨hrec, hp⟩ := hp
                                                  refine x_call0I (vx_runV (As := []) (rest := []) X (P_X4_thrown_ok (l := l) hl0 hp) (cwV 0 hts (lw_V q3227 q3228 q3229 q178 q3230) rfl rfl rfl (by decide +kernel) ⟨Nat.le_of_ble_eq_true rfl, Nat.le_of_ble_eq_true rfl⟩) ⟨wPc.blind, w_recv hC.1 hM (ci := 3) (q := (RX4, TX4, 28)) rfl hrec, w_pre hC hM hS _⟩ rfl rfl hl.1 rfl (lv_room (Nat.le_of_ble_eq_true rfl)) dL_law_1322 (w_room0 hB)) hS (w_room0 hB) (fun _ _ _ _ _ _ h => False.elim h) (fun v253 M251 H locs hp hM hS => ?_)
                                                  refine lv_iload hx hb dL_law_1325 (lv_at hl 1 rfl) ?_
                                                  refine lv_icmp_eq (tgt := 1332) hx hb dL_law_1327 (by decide) (fun hc => ?_) (fun hc => ?_)
                                                  · have hp := oIf.t hp hc
                                                    refine lv_iload hx hb dL_law_1332 (lv_at hl 1 rfl) ?_
                                                    refine lv_if_ne (tgt := 1349) hx hb dL_law_1334 (by decide) (fun hc => ?_) (fun hc => ?_)
                                                    · have hp := oIf.f hp hc
                                                      exact hB1349 rec23 hrec23 _ _ _ _ _ _ _ _ _ _ _ _ hp hM hS hB (lv_sub hl [2, 3, 4, 5, 6] rfl)
                                                    · have hp := oIf.t hp hc
                                                      refine lv_aload_n hx hb dL_law_1337 rfl (lv_at hl 5 rfl) ?_
                                                      refine lv_iconst (v := 0) hx hb dL_law_1338 (by decide) ?_
                                                      refine x_lald X hC.1 hM dL_law_1339 hp (fun v254 hp => ?_)
                                                      refine lv_iload hx hb dL_law_1340 (lv_at hl 0 rfl) ?_
                                                      refine lv_i2l (v := v250.toInt64) hx hb dL_law_1342 rfl ?_
                                                      refine W.lcmp hx hb dL_law_1343 ?_
                                                      refine lv_if_eq (tgt := 1349) hx hb dL_law_1344 (by decide) (fun hc => ?_) (fun hc => ?_)
                                                      · have hp := oIf.t hp hc
                                                        exact hB1349 rec23 hrec23 _ _ _ _ _ _ _ _ _ _ _ _ hp hM hS hB (lv_sub hl [2, 3, 4, 5, 6] rfl)
                                                      · have hp := oIf.f hp hc
                                                        exact hp.elim
                                                  · have hp := oIf.f hp hc
                                                    exact hp.elim
                                                · have hp := oIf.f hp hc21
                                                  by_cases hc22 : (v2 &&& (63 : Int32)) = (22 : Int32)
                                                  · have hp := oIf.t hp hc22
                                                    refine lv_tableIn (off := 1312) (tgt := 1352) hx hb dL_law_40 (by rw [hc22]; decide) (by rw [hc22]; decide) (by rw [hc22]; rfl) (by decide) ?_
                                                    refine lv_aload_n hx hb dL_law_1352 rfl (lv_at hl 1 rfl) ?_
                                                    refine lv_aload_n hx hb dL_law_1353 rfl (lv_at hl 0 rfl) ?_
                                                    refine lv_iload hx hb dL_law_1354 (lv_at hl 4 rfl) ?_
                                                    refine lv_iconst (v := 1) hx hb dL_law_1356 (by decide) ?_
                                                    refine lv_iadd hx hb dL_law_1357 ?_
                                                    refine x_iald X hC.1 hM dL_law_1358 hp (fun v255 hp => ?_)
                                                    refine lv_aload_n hx hb dL_law_1359 rfl (lv_at hl 3 rfl) ?_
                                                    obtain ⟨c257, hc1, hp⟩ := hp
                                                    refine x_callI (vx_runSX (As := [.ref x1, .int v255, .ref x3]) (rest := []) X (P_X0_total_ok (l := l) hl0 hp) (vx_cwSW 3 hts (lw_SW q2522 q2523 q147 q2524) rfl rfl rfl (by decide +kernel) ⟨Nat.le_of_ble_eq_true rfl, Nat.le_of_ble_eq_true rfl⟩) ⟨wPc.blind, w_pre hC hM hS _⟩ rfl rfl hl.1 rfl (lv_room (Nat.le_of_ble_eq_true rfl)) dL_law_1360 (w_room hB hc1)) hS hB hc1 (fun _ _ _ _ _ _ h => False.elim h) (fun v258 M256 H locs hp hM hS hB => ?_)
                                                    refine lv_istore (lv' := [(5, .int v258), (0, .ref x0), (1, .ref x1), (2, .ref x2), (3, .ref x3), (4, .int x4)]) hx hb dL_law_1363 hl (by decide) rfl (fun ls hl => ?_)
                                                    refine lv_aload_n hx hb dL_law_1365 rfl (lv_at hl 3 rfl) ?_
                                                    refine lv_aload_n hx hb dL_law_1366 rfl (lv_at hl 1 rfl) ?_
                                                    refine lv_iload hx hb dL_law_1367 (lv_at hl 5 rfl) ?_
                                                    refine lv_iconst (v := 1) hx hb dL_law_1369 (by decide) ?_
                                                    refine lv_iadd hx hb dL_law_1370 ?_
                                                    refine x_iald X hC.1 hM dL_law_1371 hp (fun v259 hp => ?_)
                                                    obtain ⟨hrec, hp⟩ := hp
                                                    refine x_call0I (vx_runV (As := [.int v259]) (rest := []) X (P_X4_total_ok (l := l) hl0 hp) (cwV 1 hts (lw_V q3558 q3559 q3560 q178 q3561) rfl rfl rfl (by decide +kernel) ⟨Nat.le_of_ble_eq_true rfl, Nat.le_of_ble_eq_true rfl⟩) ⟨wPc.blind, w_recv hC.1 hM (ci := 3) (q := (RX4, TX4, 28)) rfl hrec, w_pre hC hM hS _⟩ rfl rfl hl.1 rfl (lv_room (Nat.le_of_ble_eq_true rfl)) dL_law_1372 (w_room0 hB)) hS (w_room0 hB) (fun _ _ _ _ _ _ h => False.elim h) (fun v262 M260 H locs hp hM hS => ?_)
                                                    refine lv_istore (lv' := [(6, .int v262), (5, .int v258), (0, .ref x0), (1, .ref x1), (2, .ref x2), (3, .ref x3), (4, .int x4)]) hx hb dL_law_1375 hl (by decide) rfl (fun ls hl => ?_)
                                                    refine lv_aload_n hx hb dL_law_1377 rfl (lv_at hl 4 rfl) ?_
                                                    obtain ⟨hrec, hp⟩ := hp
                                                    refine x_call0I (vx_runV (As := []) (rest := []) X (P_X4_thrown_ok (l := l) hl0 hp) (cwV 0 hts (lw_V q3227 q3228 q3229 q178 q3230) rfl rfl rfl (by decide +kernel) ⟨Nat.le_of_ble_eq_true rfl, Nat.le_of_ble_eq_true rfl⟩) ⟨wPc.blind, w_recv hC.1 hM (ci := 3) (q := (RX4, TX4, 28)) rfl hrec, w_pre hC hM hS _⟩ rfl rfl hl.1 rfl (lv_room (Nat.le_of_ble_eq_true rfl)) dL_law_1378 (w_room0 hB)) hS (w_room0 hB) (fun _ _ _ _ _ _ h => False.elim h) (fun v265 M263 H locs hp hM hS => ?_)
                                                    refine lv_iload hx hb dL_law_1381 (lv_at hl 1 rfl) ?_
                                                    refine lv_icmp_eq (tgt := 1388) hx hb dL_law_1383 (by decide) (fun hc => ?_) (fun hc => ?_)
                                                    · have hp := oIf.t hp hc
                                                      refine lv_iload hx hb dL_law_1388 (lv_at hl 1 rfl) ?_
                                                      refine lv_if_ne (tgt := 1405) hx hb dL_law_1390 (by decide) (fun hc => ?_) (fun hc => ?_)
                                                      · have hp := oIf.f hp hc
                                                        exact hB1405 rec23 hrec23 _ _ _ _ _ _ _ _ _ _ _ _ hp hM hS hB (lv_sub hl [2, 3, 4, 5, 6] rfl)
                                                      · have hp := oIf.t hp hc
                                                        refine lv_aload_n hx hb dL_law_1393 rfl (lv_at hl 5 rfl) ?_
                                                        refine lv_iconst (v := 0) hx hb dL_law_1394 (by decide) ?_
                                                        refine x_lald X hC.1 hM dL_law_1395 hp (fun v266 hp => ?_)
                                                        refine lv_iload hx hb dL_law_1396 (lv_at hl 0 rfl) ?_
                                                        refine lv_i2l (v := v262.toInt64) hx hb dL_law_1398 rfl ?_
                                                        refine W.lcmp hx hb dL_law_1399 ?_
                                                        refine lv_if_eq (tgt := 1405) hx hb dL_law_1400 (by decide) (fun hc => ?_) (fun hc => ?_)
                                                        · have hp := oIf.t hp hc
                                                          exact hB1405 rec23 hrec23 _ _ _ _ _ _ _ _ _ _ _ _ hp hM hS hB (lv_sub hl [2, 3, 4, 5, 6] rfl)
                                                        · have hp := oIf.f hp hc
                                                          exact hp.elim
                                                    · have hp := oIf.f hp hc
                                                      exact hp.elim
                                                  · have hp := oIf.f hp hc22
                                                    by_cases hc23 : (v2 &&& (63 : Int32)) = (23 : Int32)
                                                    · have hp := oIf.t hp hc23
                                                      refine lv_tableIn (off := 1368) (tgt := 1408) hx hb dL_law_40 (by rw [hc23]; decide) (by rw [hc23]; decide) (by rw [hc23]; rfl) (by decide) ?_
                                                      refine lv_aload_n hx hb dL_law_1408 rfl (lv_at hl 1 rfl) ?_
                                                      refine lv_aload_n hx hb dL_law_1409 rfl (lv_at hl 0 rfl) ?_
                                                      refine lv_iload hx hb dL_law_1410 (lv_at hl 4 rfl) ?_
                                                      refine lv_iconst (v := 1) hx hb dL_law_1412 (by decide) ?_
                                                      refine lv_iadd hx hb dL_law_1413 ?_
                                                      refine x_iald X hC.1 hM dL_law_1414 hp (fun v267 hp => ?_)
                                                      refine lv_aload_n hx hb dL_law_1415 rfl (lv_at hl 3 rfl) ?_
                                                      obtain ⟨c269, hc1, hp⟩ := hp
                                                      refine x_callI (vx_runSX (As := [.ref x1, .int v267, .ref x3]) (rest := []) X (P_X0_finesBy_ok (l := l) hl0 hp) (vx_cwSW 3 hts (lw_SW q2529 q2530 q147 q2531) rfl rfl rfl (by decide +kernel) ⟨Nat.le_of_ble_eq_true rfl, Nat.le_of_ble_eq_true rfl⟩) ⟨wPc.blind, w_pre hC hM hS _⟩ rfl rfl hl.1 rfl (lv_room (Nat.le_of_ble_eq_true rfl)) dL_law_1416 (w_room hB hc1)) hS hB hc1 (fun _ _ _ _ _ _ h => False.elim h) (fun v270 M268 H locs hp hM hS hB => ?_)
                                                      refine lv_istore (lv' := [(5, .int v270), (0, .ref x0), (1, .ref x1), (2, .ref x2), (3, .ref x3), (4, .int x4)]) hx hb dL_law_1419 hl (by decide) rfl (fun ls hl => ?_)
                                                      refine lv_aload_n hx hb dL_law_1421 rfl (lv_at hl 3 rfl) ?_
                                                      refine lv_aload_n hx hb dL_law_1422 rfl (lv_at hl 1 rfl) ?_
                                                      refine lv_iload hx hb dL_law_1423 (lv_at hl 5 rfl) ?_
                                                      refine lv_iconst (v := 1) hx hb dL_law_1425 (by decide) ?_
                                                      refine lv_iadd hx hb dL_law_1426 ?_
                                                      refine x_iald X hC.1 hM dL_law_1427 hp (fun v271 hp => ?_)
                                                      obtain ⟨hrec, hp⟩ := hp
                                                      refine x_call0I (vx_runV (As := [.int v271]) (rest := []) X (P_X4_finesBy_ok (l := l) hl0 hp) (cwV 1 hts (lw_V q3563 q3564 q3565 q178 q3566) rfl rfl rfl (by decide +kernel) ⟨Nat.le_of_ble_eq_true rfl, Nat.le_of_ble_eq_true rfl⟩) ⟨wPc.blind, w_recv hC.1 hM (ci := 3) (q := (RX4, TX4, 28)) rfl hrec, w_pre hC hM hS _⟩ rfl rfl hl.1 rfl (lv_room (Nat.le_of_ble_eq_true rfl)) dL_law_1428 (w_room0 hB)) hS (w_room0 hB) (fun _ _ _ _ _ _ h => False.elim h) (fun v274 M272 H locs hp hM hS => ?_)
                                                      refine lv_istore (lv' := [(6, .int v274), (5, .int v270), (0, .ref x0), (1, .ref x1), (2, .ref x2), (3, .ref x3), (4, .int x4)]) hx hb dL_law_1431 hl (by decide) rfl (fun ls hl => ?_)
                                                      refine lv_aload_n hx hb dL_law_1433 rfl (lv_at hl 4 rfl) ?_
                                                      obtain ⟨hrec, hp⟩ := hp
                                                      refine x_call0I (vx_runV (As := []) (rest := []) X (P_X4_thrown_ok (l := l) hl0 hp) (cwV 0 hts (lw_V q3227 q3228 q3229 q178 q3230) rfl rfl rfl (by decide +kernel) ⟨Nat.le_of_ble_eq_true rfl, Nat.le_of_ble_eq_true rfl⟩) ⟨wPc.blind, w_recv hC.1 hM (ci := 3) (q := (RX4, TX4, 28)) rfl hrec, w_pre hC hM hS _⟩ rfl rfl hl.1 rfl (lv_room (Nat.le_of_ble_eq_true rfl)) dL_law_1434 (w_room0 hB)) hS (w_room0 hB) (fun _ _ _ _ _ _ h => False.elim h) (fun v277 M275 H locs hp hM hS => ?_)
                                                      refine lv_iload hx hb dL_law_1437 (lv_at hl 1 rfl) ?_
                                                      refine lv_icmp_eq (tgt := 1444) hx hb dL_law_1439 (by decide) (fun hc => ?_) (fun hc => ?_)
                                                      · have hp := oIf.t hp hc
                                                        refine lv_iload hx hb dL_law_1444 (lv_at hl 1 rfl) ?_
                                                        refine lv_if_ne (tgt := 1461) hx hb dL_law_1446 (by decide) (fun hc => ?_) (fun hc => ?_)
                                                        · have hp := oIf.f hp hc
                                                          exact hB1461 rec23 hrec23 _ _ _ _ _ _ _ _ _ _ _ _ hp hM hS hB (lv_sub hl [2, 3, 4, 5, 6] rfl)
                                                        · have hp := oIf.t hp hc
                                                          refine lv_aload_n hx hb dL_law_1449 rfl (lv_at hl 5 rfl) ?_
                                                          refine lv_iconst (v := 0) hx hb dL_law_1450 (by decide) ?_
                                                          refine x_lald X hC.1 hM dL_law_1451 hp (fun v278 hp => ?_)
                                                          refine lv_iload hx hb dL_law_1452 (lv_at hl 0 rfl) ?_
                                                          refine lv_i2l (v := v274.toInt64) hx hb dL_law_1454 rfl ?_
                                                          refine W.lcmp hx hb dL_law_1455 ?_
                                                          refine lv_if_eq (tgt := 1461) hx hb dL_law_1456 (by decide) (fun hc => ?_) (fun hc => ?_)
                                                          · have hp := oIf.t hp hc
                                                            exact hB1461 rec23 hrec23 _ _ _ _ _ _ _ _ _ _ _ _ hp hM hS hB (lv_sub hl [2, 3, 4, 5, 6] rfl)
                                                          · have hp := oIf.f hp hc
                                                            exact hp.elim
                                                      · have hp := oIf.f hp hc
                                                        exact hp.elim
                                                    · have hp := oIf.f hp hc23
                                                      by_cases hc24 : (v2 &&& (63 : Int32)) = (24 : Int32)
                                                      · have hp := oIf.t hp hc24
                                                        refine lv_tableIn (off := 1424) (tgt := 1464) hx hb dL_law_40 (by rw [hc24]; decide) (by rw [hc24]; decide) (by rw [hc24]; rfl) (by decide) ?_
                                                        refine lv_aload_n hx hb dL_law_1464 rfl (lv_at hl 1 rfl) ?_
                                                        obtain ⟨hrec, hp⟩ := hp
                                                        obtain ⟨c280, hc1, hp⟩ := hp
                                                        refine x_callF (vx_runV (As := []) (rest := []) X (P_X1_withdrawnShare_ok (l := l) hl0 hp) (cwV 0 hts (lw_V q1965 q1966 q1967 q148 q1968) rfl rfl rfl (by decide +kernel) ⟨Nat.le_of_ble_eq_true rfl, Nat.le_of_ble_eq_true rfl⟩) ⟨wPc.blind, w_recv hC.1 hM (ci := 0) (q := (RX1, TX1, 8)) rfl hrec, w_pre hC hM hS _⟩ rfl rfl hl.1 rfl (lv_room (Nat.le_of_ble_eq_true rfl)) dL_law_1465 (w_room hB hc1)) hS hB hc1 (fun _ _ _ _ _ _ h => False.elim h) (fun v281 M279 H locs hp hM hS hB => ?_)
                                                        refine lv_f2d hx hb dL_law_1468 hp.1 ?_
                                                        have hp := hp.2
                                                        refine lv_dstore (lv' := [(5, .double (FP.f2d v281)), (0, .ref x0), (1, .ref x1), (2, .ref x2), (3, .ref x3), (4, .int x4)]) hx hb dL_law_1469 hl (by decide) rfl (fun ls hl => ?_)
                                                        refine lv_aload_n hx hb dL_law_1471 rfl (lv_at hl 3 rfl) ?_
                                                        obtain ⟨hrec, hp⟩ := hp
                                                        refine x_call0F (vx_runV (As := []) (rest := []) X (P_X4_withdrawnShare_ok (l := l) hl0 hp) (cwV 0 hts (lw_V q3575 q3576 q3577 q178 q3578) rfl rfl rfl (by decide +kernel) ⟨Nat.le_of_ble_eq_true rfl, Nat.le_of_ble_eq_true rfl⟩) ⟨wPc.blind, w_recv hC.1 hM (ci := 3) (q := (RX4, TX4, 28)) rfl hrec, w_pre hC hM hS _⟩ rfl rfl hl.1 rfl (lv_room (Nat.le_of_ble_eq_true rfl)) dL_law_1472 (w_room0 hB)) hS (w_room0 hB) (fun _ _ _ _ _ _ h => False.elim h) (fun v284 M282 H locs hp hM hS => ?_)
                                                        refine lv_f2d hx hb dL_law_1475 hp.1 ?_
                                                        have hp := hp.2
                                                        refine lv_dstore (lv' := [(7, .double (FP.f2d v284)), (5, .double (FP.f2d v281)), (0, .ref x0), (1, .ref x1), (2, .ref x2), (3, .ref x3), (4, .int x4)]) hx hb dL_law_1476 hl (by decide) rfl (fun ls hl => ?_)
                                                        refine lv_dload hx hb dL_law_1478 (lv_at hl 1 rfl) ?_
                                                        refine lv_dload hx hb dL_law_1480 (lv_at hl 0 rfl) ?_
                                                        refine lv_dcmp hx hb dL_law_1482 ?_
                                                        refine lv_if_eq (tgt := 1504) hx hb dL_law_1483 (by decide) (fun hc => ?_) (fun hc => ?_)
                                                        · have hp := oIf.t hp hc
                                                          exact hB1504 rec23 hrec23 _ _ _ _ _ _ _ _ _ _ _ _ hp hM hS hB (lv_sub hl [2, 3, 4, 5, 6] rfl)
                                                        · have hp := oIf.f hp hc
                                                          refine lv_dload hx hb dL_law_1486 (lv_at hl 1 rfl) ?_
                                                          refine lv_dload hx hb dL_law_1488 (lv_at hl 1 rfl) ?_
                                                          refine lv_dcmp hx hb dL_law_1490 ?_
                                                          refine lv_if_eq (tgt := 1502) hx hb dL_law_1491 (by decide) (fun hc => ?_) (fun hc => ?_)
                                                          · have hp := oIf.t hp hc
                                                            exact hp.elim
                                                          · have hp := oIf.f hp hc
                                                            refine lv_dload hx hb dL_law_1494 (lv_at hl 0 rfl) ?_
                                                            refine lv_dload hx hb dL_law_1496 (lv_at hl 0 rfl) ?_
                                                            refine lv_dcmp hx hb dL_law_1498 ?_
                                                            refine lv_if_ne (tgt := 1504) hx hb dL_law_1499 (by decide) (fun hc => ?_) (fun hc => ?_)
                                                            · have hp := oIf.f hp hc
                                                              exact hB1504 rec23 hrec23 _ _ _ _ _ _ _ _ _ _ _ _ hp hM hS hB (lv_sub hl [2, 3, 4, 5, 6] rfl)
                                                            · have hp := oIf.t hp hc
                                                              exact hp.elim
                                                      · have hp := oIf.f hp hc24
                                                        by_cases hc25 : (v2 &&& (63 : Int32)) = (25 : Int32)
                                                        · have hp := oIf.t hp hc25
                                                          refine lv_tableIn (off := 1467) (tgt := 1507) hx hb dL_law_40 (by rw [hc25]; decide) (by rw [hc25]; decide) (by rw [hc25]; rfl) (by decide) ?_
                                                          refine lv_aload_n hx hb dL_law_1507 rfl (lv_at hl 1 rfl) ?_
                                                          refine lv_aload_n hx hb dL_law_1508 rfl (lv_at hl 0 rfl) ?_
                                                          refine lv_iload hx hb dL_law_1509 (lv_at hl 4 rfl) ?_
                                                          refine lv_iconst (v := 1) hx hb dL_law_1511 (by decide) ?_
                                                          refine lv_iadd hx hb dL_law_1512 ?_
                                                          refine x_iald X hC.1 hM dL_law_1513 hp (fun v285 hp => ?_)
                                                          refine lv_aload_n hx hb dL_law_1514 rfl (lv_at hl 3 rfl) ?_
                                                          obtain ⟨c287, hc1, hp⟩ := hp
                                                          refine x_callI (vx_runSX (As := [.ref x1, .int v285, .ref x3]) (rest := []) X (P_X0_pass_ok (l := l) hl0 hp) (vx_cwSW 3 hts (lw_SW q2536 q2537 q147 q2538) rfl rfl rfl (by decide +kernel) ⟨Nat.le_of_ble_eq_true rfl, Nat.le_of_ble_eq_true rfl⟩) ⟨wPc.blind, w_pre hC hM hS _⟩ rfl rfl hl.1 rfl (lv_room (Nat.le_of_ble_eq_true rfl)) dL_law_1515 (w_room hB hc1)) hS hB hc1 (fun _ _ _ _ _ _ h => False.elim h) (fun v288 M286 H locs hp hM hS hB => ?_)
                                                          refine lv_istore (lv' := [(5, .int v288), (0, .ref x0), (1, .ref x1), (2, .ref x2), (3, .ref x3), (4, .int x4)]) hx hb dL_law_1518 hl (by decide) rfl (fun ls hl => ?_)
                                                          refine lv_aload_n hx hb dL_law_1520 rfl (lv_at hl 3 rfl) ?_
                                                          refine lv_aload_n hx hb dL_law_1521 rfl (lv_at hl 1 rfl) ?_
                                                          refine lv_iload hx hb dL_law_1522 (lv_at hl 5 rfl) ?_
                                                          refine lv_iconst (v := 1) hx hb dL_law_1524 (by decide) ?_
                                                          refine lv_iadd hx hb dL_law_1525 ?_
                                                          refine x_iald X hC.1 hM dL_law_1526 hp (fun v289 hp => ?_)
                                                          obtain ⟨hrec, hp⟩ := hp
                                                          refine x_call0I (vx_runV (As := [.int v289]) (rest := []) X (P_X4_pass_ok (l := l) hl0 hp) (cwV 1 hts (lw_V q3250 q3251 q3252 q178 q3253) rfl rfl rfl (by decide +kernel) ⟨Nat.le_of_ble_eq_true rfl, Nat.le_of_ble_eq_true rfl⟩) ⟨wPc.blind, w_recv hC.1 hM (ci := 3) (q := (RX4, TX4, 28)) rfl hrec, w_pre hC hM hS _⟩ rfl rfl hl.1 rfl (lv_room (Nat.le_of_ble_eq_true rfl)) dL_law_1527 (w_room0 hB)) hS (w_room0 hB) (fun _ _ _ _ _ _ h => False.elim h) (fun v292 M290 H locs hp hM hS => ?_)
                                                          refine lv_istore (lv' := [(6, .int v292), (5, .int v288), (0, .ref x0), (1, .ref x1), (2, .ref x2), (3, .ref x3), (4, .int x4)]) hx hb dL_law_1530 hl (by decide) rfl (fun ls hl => ?_)
                                                          refine lv_aload_n hx hb dL_law_1532 rfl (lv_at hl 4 rfl) ?_
                                                          obtain ⟨hrec, hp⟩ := hp
                                                          refine x_call0I (vx_runV (As := []) (rest := []) X (P_X4_thrown_ok (l := l) hl0 hp) (cwV 0 hts (lw_V q3227 q3228 q3229 q178 q3230) rfl rfl rfl (by decide +kernel) ⟨Nat.le_of_ble_eq_true rfl, Nat.le_of_ble_eq_true rfl⟩) ⟨wPc.blind, w_recv hC.1 hM (ci := 3) (q := (RX4, TX4, 28)) rfl hrec, w_pre hC hM hS _⟩ rfl rfl hl.1 rfl (lv_room (Nat.le_of_ble_eq_true rfl)) dL_law_1533 (w_room0 hB)) hS (w_room0 hB) (fun _ _ _ _ _ _ h => False.elim h) (fun v295 M293 H locs hp hM hS => ?_)
                                                          refine lv_iload hx hb dL_law_1536 (lv_at hl 1 rfl) ?_
                                                          refine lv_icmp_eq (tgt := 1543) hx hb dL_law_1538 (by decide) (fun hc => ?_) (fun hc => ?_)
                                                          · have hp := oIf.t hp hc
                                                            refine lv_iload hx hb dL_law_1543 (lv_at hl 1 rfl) ?_
                                                            refine lv_if_ne (tgt := 1560) hx hb dL_law_1545 (by decide) (fun hc => ?_) (fun hc => ?_)
                                                            · have hp := oIf.f hp hc
                                                              exact hB1560 rec23 hrec23 _ _ _ _ _ _ _ _ _ _ _ _ hp hM hS hB (lv_sub hl [2, 3, 4, 5, 6] rfl)
                                                            · have hp := oIf.t hp hc
                                                              refine lv_aload_n hx hb dL_law_1548 rfl (lv_at hl 5 rfl) ?_
                                                              refine lv_iconst (v := 0) hx hb dL_law_1549 (by decide) ?_
                                                              refine x_lald X hC.1 hM dL_law_1550 hp (fun v296 hp => ?_)
                                                              refine lv_iload hx hb dL_law_1551 (lv_at hl 0 rfl) ?_
                                                              refine lv_i2l (v := v292.toInt64) hx hb dL_law_1553 rfl ?_
                                                              refine W.lcmp hx hb dL_law_1554 ?_
                                                              refine lv_if_eq (tgt := 1560) hx hb dL_law_1555 (by decide) (fun hc => ?_) (fun hc => ?_)
                                                              · have hp := oIf.t hp hc
                                                                exact hB1560 rec23 hrec23 _ _ _ _ _ _ _ _ _ _ _ _ hp hM hS hB (lv_sub hl [2, 3, 4, 5, 6] rfl)
                                                              · have hp := oIf.f hp hc
                                                                exact hp.elim
                                                          · have hp := oIf.f hp hc
                                                            exact hp.elim
                                                        · have hp := oIf.f hp hc25
                                                          by_cases hc26 : (v2 &&& (63 : Int32)) = (26 : Int32)
                                                          · have hp := oIf.t hp hc26
                                                            refine lv_tableIn (off := 1523) (tgt := 1563) hx hb dL_law_40 (by rw [hc26]; decide) (by rw [hc26]; decide) (by rw [hc26]; rfl) (by decide) ?_
                                                            refine lv_aload_n hx hb dL_law_1563 rfl (lv_at hl 1 rfl) ?_
                                                            refine lv_aload_n hx hb dL_law_1564 rfl (lv_at hl 0 rfl) ?_
                                                            refine lv_iload hx hb dL_law_1565 (lv_at hl 4 rfl) ?_
                                                            refine lv_iconst (v := 1) hx hb dL_law_1567 (by decide) ?_
                                                            refine lv_iadd hx hb dL_law_1568 ?_
                                                            refine x_iald X hC.1 hM dL_law_1569 hp (fun v297 hp => ?_)
                                                            refine lv_aload_n hx hb dL_law_1570 rfl (lv_at hl 0 rfl) ?_
                                                            refine lv_iload hx hb dL_law_1571 (lv_at hl 4 rfl) ?_
                                                            refine lv_iconst (v := 2) hx hb dL_law_1573 (by decide) ?_
                                                            refine lv_iadd hx hb dL_law_1574 ?_
                                                            refine x_iald X hC.1 hM dL_law_1575 hp (fun v298 hp => ?_)
                                                            refine lv_aload_n hx hb dL_law_1576 rfl (lv_at hl 3 rfl) ?_
                                                            obtain ⟨c300, hc1, hp⟩ := hp
                                                            refine x_callI (vx_runSX (As := [.ref x1, .int v297, .int v298, .ref x3]) (rest := []) X (P_X0_apply_ok (l := l) hl0 hp) (vx_cwSW 4 hts (lw_SW q2622 q2623 q147 q2624) rfl rfl rfl (by decide +kernel) ⟨Nat.le_of_ble_eq_true rfl, Nat.le_of_ble_eq_true rfl⟩) ⟨wPc.blind, w_pre hC hM hS _⟩ rfl rfl hl.1 rfl (lv_room (Nat.le_of_ble_eq_true rfl)) dL_law_1577 (w_room hB hc1)) hS hB hc1 (fun _ _ _ _ _ _ h => False.elim h) (fun v301 M299 H locs hp hM hS hB => ?_)
                                                            refine lv_istore (lv' := [(5, .int v301), (0, .ref x0), (1, .ref x1), (2, .ref x2), (3, .ref x3), (4, .int x4)]) hx hb dL_law_1580 hl (by decide) rfl (fun ls hl => ?_)
                                                            refine lv_aload_n hx hb dL_law_1582 rfl (lv_at hl 3 rfl) ?_
                                                            refine lv_aload_n hx hb dL_law_1583 rfl (lv_at hl 1 rfl) ?_
                                                            refine lv_iload hx hb dL_law_1584 (lv_at hl 5 rfl) ?_
                                                            refine lv_iconst (v := 1) hx hb dL_law_1586 (by decide) ?_
                                                            refine lv_iadd hx hb dL_law_1587 ?_
                                                            refine x_iald X hC.1 hM dL_law_1588 hp (fun v302 hp => ?_)
                                                            refine lv_aload_n hx hb dL_law_1589 rfl (lv_at hl 1 rfl) ?_
                                                            refine lv_iload hx hb dL_law_1590 (lv_at hl 5 rfl) ?_
                                                            refine lv_iconst (v := 2) hx hb dL_law_1592 (by decide) ?_
                                                            refine lv_iadd hx hb dL_law_1593 ?_
                                                            refine x_iald X hC.1 hM dL_law_1594 hp (fun v303 hp => ?_)
                                                            obtain ⟨hrec, hp⟩ := hp
                                                            refine x_call0I (vx_runV (As := [.int v302, .int v303]) (rest := []) X (P_X4_apply_ok (l := l) hl0 hp) (cwV 2 hts (lw_V q3327 q3328 q3329 q178 q3330) rfl rfl rfl (by decide +kernel) ⟨Nat.le_of_ble_eq_true rfl, Nat.le_of_ble_eq_true rfl⟩) ⟨wPc.blind, w_recv hC.1 hM (ci := 3) (q := (RX4, TX4, 28)) rfl hrec, w_pre hC hM hS _⟩ rfl rfl hl.1 rfl (lv_room (Nat.le_of_ble_eq_true rfl)) dL_law_1595 (w_room0 hB)) hS (w_room0 hB) (fun _ _ _ _ _ _ h => False.elim h) (fun v306 M304 H locs hp hM hS => ?_)
                                                            refine lv_istore (lv' := [(6, .int v306), (5, .int v301), (0, .ref x0), (1, .ref x1), (2, .ref x2), (3, .ref x3), (4, .int x4)]) hx hb dL_law_1598 hl (by decide) rfl (fun ls hl => ?_)
                                                            refine lv_aload_n hx hb dL_law_1600 rfl (lv_at hl 4 rfl) ?_
                                                            obtain ⟨hrec, hp⟩ := hp
                                                            refine x_call0I (vx_runV (As := []) (rest := []) X (P_X4_thrown_ok (l := l) hl0 hp) (cwV 0 hts (lw_V q3227 q3228 q3229 q178 q3230) rfl rfl rfl (by decide +kernel) ⟨Nat.le_of_ble_eq_true rfl, Nat.le_of_ble_eq_true rfl⟩) ⟨wPc.blind, w_recv hC.1 hM (ci := 3) (q := (RX4, TX4, 28)) rfl hrec, w_pre hC hM hS _⟩ rfl rfl hl.1 rfl (lv_room (Nat.le_of_ble_eq_true rfl)) dL_law_1601 (w_room0 hB)) hS (w_room0 hB) (fun _ _ _ _ _ _ h => False.elim h) (fun v309 M307 H locs hp hM hS => ?_)
                                                            refine lv_iload hx hb dL_law_1604 (lv_at hl 1 rfl) ?_
                                                            refine lv_icmp_eq (tgt := 1611) hx hb dL_law_1606 (by decide) (fun hc => ?_) (fun hc => ?_)
                                                            · have hp := oIf.t hp hc
                                                              refine lv_iload hx hb dL_law_1611 (lv_at hl 1 rfl) ?_
                                                              refine lv_if_ne (tgt := 1628) hx hb dL_law_1613 (by decide) (fun hc => ?_) (fun hc => ?_)
                                                              · have hp := oIf.f hp hc
                                                                exact hB1628 rec23 hrec23 _ _ _ _ _ _ _ _ _ _ _ _ hp hM hS hB (lv_sub hl [2, 3, 4, 5, 6] rfl)
                                                              · have hp := oIf.t hp hc
                                                                refine lv_aload_n hx hb dL_law_1616 rfl (lv_at hl 5 rfl) ?_
                                                                refine lv_iconst (v := 0) hx hb dL_law_1617 (by decide) ?_
                                                                refine x_lald X hC.1 hM dL_law_1618 hp (fun v310 hp => ?_)
                                                                refine lv_iload hx hb dL_law_1619 (lv_at hl 0 rfl) ?_
                                                                refine lv_i2l (v := v306.toInt64) hx hb dL_law_1621 rfl ?_
                                                                refine W.lcmp hx hb dL_law_1622 ?_
                                                                refine lv_if_eq (tgt := 1628) hx hb dL_law_1623 (by decide) (fun hc => ?_) (fun hc => ?_)
                                                                · have hp := oIf.t hp hc
                                                                  exact hB1628 rec23 hrec23 _ _ _ _ _ _ _ _ _ _ _ _ hp hM hS hB (lv_sub hl [2, 3, 4, 5, 6] rfl)
                                                                · have hp := oIf.f hp hc
                                                                  exact hp.elim
                                                            · have hp := oIf.f hp hc
                                                              exact hp.elim
                                                          · have hp := oIf.f hp hc26
                                                            by_cases hc27 : (v2 &&& (63 : Int32)) = (27 : Int32)
                                                            · have hp := oIf.t hp hc27
                                                              refine lv_tableIn (off := 1591) (tgt := 1631) hx hb dL_law_40 (by rw [hc27]; decide) (by rw [hc27]; decide) (by rw [hc27]; rfl) (by decide) ?_
                                                              refine lv_aload_n hx hb dL_law_1631 rfl (lv_at hl 1 rfl) ?_
                                                              refine lv_aload_n hx hb dL_law_1632 rfl (lv_at hl 0 rfl) ?_
                                                              refine lv_iload hx hb dL_law_1633 (lv_at hl 4 rfl) ?_
                                                              refine lv_iconst (v := 1) hx hb dL_law_1635 (by decide) ?_
                                                              refine lv_iadd hx hb dL_law_1636 ?_
                                                              refine x_iald X hC.1 hM dL_law_1637 hp (fun v311 hp => ?_)
                                                              refine lv_aload_n hx hb dL_law_1638 rfl (lv_at hl 3 rfl) ?_
                                                              obtain ⟨c313, hc1, hp⟩ := hp
                                                              refine x_callI (vx_runSX (As := [.ref x1, .int v311, .ref x3]) (rest := []) X (P_X0_accept_ok (l := l) hl0 hp) (vx_cwSW 3 hts (lw_SW q2683 q2684 q147 q2685) rfl rfl rfl (by decide +kernel) ⟨Nat.le_of_ble_eq_true rfl, Nat.le_of_ble_eq_true rfl⟩) ⟨wPc.blind, w_pre hC hM hS _⟩ rfl rfl hl.1 rfl (lv_room (Nat.le_of_ble_eq_true rfl)) dL_law_1639 (w_room hB hc1)) hS hB hc1 (fun _ _ _ _ _ _ h => False.elim h) (fun v314 M312 H locs hp hM hS hB => ?_)
                                                              refine lv_istore (lv' := [(5, .int v314), (0, .ref x0), (1, .ref x1), (2, .ref x2), (3, .ref x3), (4, .int x4)]) hx hb dL_law_1642 hl (by decide) rfl (fun ls hl => ?_)
                                                              refine lv_aload_n hx hb dL_law_1644 rfl (lv_at hl 3 rfl) ?_
                                                              refine lv_aload_n hx hb dL_law_1645 rfl (lv_at hl 1 rfl) ?_
                                                              refine lv_iload hx hb dL_law_1646 (lv_at hl 5 rfl) ?_
                                                              refine lv_iconst (v := 1) hx hb dL_law_1648 (by decide) ?_
                                                              refine lv_iadd hx hb dL_law_1649 ?_
                                                              refine x_iald X hC.1 hM dL_law_1650 hp (fun v315 hp => ?_)
                                                              obtain ⟨hrec, hp⟩ := hp
                                                              refine x_call0I (vx_runV (As := [.int v315]) (rest := []) X (P_X4_accept_ok (l := l) hl0 hp) (cwV 1 hts (lw_V q3359 q3360 q3361 q178 q3362) rfl rfl rfl (by decide +kernel) ⟨Nat.le_of_ble_eq_true rfl, Nat.le_of_ble_eq_true rfl⟩) ⟨wPc.blind, w_recv hC.1 hM (ci := 3) (q := (RX4, TX4, 28)) rfl hrec, w_pre hC hM hS _⟩ rfl rfl hl.1 rfl (lv_room (Nat.le_of_ble_eq_true rfl)) dL_law_1651 (w_room0 hB)) hS (w_room0 hB) (fun _ _ _ _ _ _ h => False.elim h) (fun v318 M316 H locs hp hM hS => ?_)
                                                              refine lv_istore (lv' := [(6, .int v318), (5, .int v314), (0, .ref x0), (1, .ref x1), (2, .ref x2), (3, .ref x3), (4, .int x4)]) hx hb dL_law_1654 hl (by decide) rfl (fun ls hl => ?_)
                                                              refine lv_aload_n hx hb dL_law_1656 rfl (lv_at hl 4 rfl) ?_
                                                              obtain ⟨hrec, hp⟩ := hp
                                                              refine x_call0I (vx_runV (As := []) (rest := []) X (P_X4_thrown_ok (l := l) hl0 hp) (cwV 0 hts (lw_V q3227 q3228 q3229 q178 q3230) rfl rfl rfl (by decide +kernel) ⟨Nat.le_of_ble_eq_true rfl, Nat.le_of_ble_eq_true rfl⟩) ⟨wPc.blind, w_recv hC.1 hM (ci := 3) (q := (RX4, TX4, 28)) rfl hrec, w_pre hC hM hS _⟩ rfl rfl hl.1 rfl (lv_room (Nat.le_of_ble_eq_true rfl)) dL_law_1657 (w_room0 hB)) hS (w_room0 hB) (fun _ _ _ _ _ _ h => False.elim h) (fun v321 M319 H locs hp hM hS => ?_)
                                                              refine lv_iload hx hb dL_law_1660 (lv_at hl 1 rfl) ?_
                                                              refine lv_icmp_eq (tgt := 1667) hx hb dL_law_1662 (by decide) (fun hc => ?_) (fun hc => ?_)
                                                              · have hp := oIf.t hp hc
                                                                refine lv_iload hx hb dL_law_1667 (lv_at hl 1 rfl) ?_
                                                                refine lv_if_ne (tgt := 1684) hx hb dL_law_1669 (by decide) (fun hc => ?_) (fun hc => ?_)
                                                                · have hp := oIf.f hp hc
                                                                  exact hB1684 rec23 hrec23 _ _ _ _ _ _ _ _ _ _ _ _ hp hM hS hB (lv_sub hl [2, 3, 4, 5, 6] rfl)
                                                                · have hp := oIf.t hp hc
                                                                  refine lv_aload_n hx hb dL_law_1672 rfl (lv_at hl 5 rfl) ?_
                                                                  refine lv_iconst (v := 0) hx hb dL_law_1673 (by decide) ?_
                                                                  refine x_lald X hC.1 hM dL_law_1674 hp (fun v322 hp => ?_)
                                                                  refine lv_iload hx hb dL_law_1675 (lv_at hl 0 rfl) ?_
                                                                  refine lv_i2l (v := v318.toInt64) hx hb dL_law_1677 rfl ?_
                                                                  refine W.lcmp hx hb dL_law_1678 ?_
                                                                  refine lv_if_eq (tgt := 1684) hx hb dL_law_1679 (by decide) (fun hc => ?_) (fun hc => ?_)
                                                                  · have hp := oIf.t hp hc
                                                                    exact hB1684 rec23 hrec23 _ _ _ _ _ _ _ _ _ _ _ _ hp hM hS hB (lv_sub hl [2, 3, 4, 5, 6] rfl)
                                                                  · have hp := oIf.f hp hc
                                                                    exact hp.elim
                                                              · have hp := oIf.f hp hc
                                                                exact hp.elim
                                                            · have hp := oIf.f hp hc27
                                                              by_cases hc28 : (v2 &&& (63 : Int32)) = (28 : Int32)
                                                              · have hp := oIf.t hp hc28
                                                                refine lv_tableIn (off := 1647) (tgt := 1687) hx hb dL_law_40 (by rw [hc28]; decide) (by rw [hc28]; decide) (by rw [hc28]; rfl) (by decide) ?_
                                                                refine lv_aload_n hx hb dL_law_1687 rfl (lv_at hl 1 rfl) ?_
                                                                refine lv_aload_n hx hb dL_law_1688 rfl (lv_at hl 0 rfl) ?_
                                                                refine lv_iload hx hb dL_law_1689 (lv_at hl 4 rfl) ?_
                                                                refine lv_iconst (v := 1) hx hb dL_law_1691 (by decide) ?_
                                                                refine lv_iadd hx hb dL_law_1692 ?_
                                                                refine x_iald X hC.1 hM dL_law_1693 hp (fun v323 hp => ?_)
                                                                refine lv_aload_n hx hb dL_law_1694 rfl (lv_at hl 3 rfl) ?_
                                                                obtain ⟨c325, hc1, hp⟩ := hp
                                                                refine x_callI (vx_runSX (As := [.ref x1, .int v323, .ref x3]) (rest := []) X (P_X0_renew_ok (l := l) hl0 hp) (vx_cwSW 3 hts (lw_SW q2693 q2694 q147 q2695) rfl rfl rfl (by decide +kernel) ⟨Nat.le_of_ble_eq_true rfl, Nat.le_of_ble_eq_true rfl⟩) ⟨wPc.blind, w_pre hC hM hS _⟩ rfl rfl hl.1 rfl (lv_room (Nat.le_of_ble_eq_true rfl)) dL_law_1695 (w_room hB hc1)) hS hB hc1 (fun _ _ _ _ _ _ h => False.elim h) (fun v326 M324 H locs hp hM hS hB => ?_)
                                                                refine lv_istore (lv' := [(5, .int v326), (0, .ref x0), (1, .ref x1), (2, .ref x2), (3, .ref x3), (4, .int x4)]) hx hb dL_law_1698 hl (by decide) rfl (fun ls hl => ?_)
                                                                refine lv_aload_n hx hb dL_law_1700 rfl (lv_at hl 3 rfl) ?_
                                                                refine lv_aload_n hx hb dL_law_1701 rfl (lv_at hl 1 rfl) ?_
                                                                refine lv_iload hx hb dL_law_1702 (lv_at hl 5 rfl) ?_
                                                                refine lv_iconst (v := 1) hx hb dL_law_1704 (by decide) ?_
                                                                refine lv_iadd hx hb dL_law_1705 ?_
                                                                refine x_iald X hC.1 hM dL_law_1706 hp (fun v327 hp => ?_)
                                                                obtain ⟨hrec, hp⟩ := hp
                                                                refine x_call0I (vx_runV (As := [.int v327]) (rest := []) X (P_X4_renew_ok (l := l) hl0 hp) (cwV 1 hts (lw_V q3367 q3368 q3369 q178 q3370) rfl rfl rfl (by decide +kernel) ⟨Nat.le_of_ble_eq_true rfl, Nat.le_of_ble_eq_true rfl⟩) ⟨wPc.blind, w_recv hC.1 hM (ci := 3) (q := (RX4, TX4, 28)) rfl hrec, w_pre hC hM hS _⟩ rfl rfl hl.1 rfl (lv_room (Nat.le_of_ble_eq_true rfl)) dL_law_1707 (w_room0 hB)) hS (w_room0 hB) (fun _ _ _ _ _ _ h => False.elim h) (fun v330 M328 H locs hp hM hS => ?_)
                                                                refine lv_istore (lv' := [(6, .int v330), (5, .int v326), (0, .ref x0), (1, .ref x1), (2, .ref x2), (3, .ref x3), (4, .int x4)]) hx hb dL_law_1710 hl (by decide) rfl (fun ls hl => ?_)
                                                                refine lv_aload_n hx hb dL_law_1712 rfl (lv_at hl 4 rfl) ?_
                                                                obtain ⟨hrec, hp⟩ := hp
                                                                refine x_call0I (vx_runV (As := []) (rest := []) X (P_X4_thrown_ok (l := l) hl0 hp) (cwV 0 hts (lw_V q3227 q3228 q3229 q178 q3230) rfl rfl rfl (by decide +kernel) ⟨Nat.le_of_ble_eq_true rfl, Nat.le_of_ble_eq_true rfl⟩) ⟨wPc.blind, w_recv hC.1 hM (ci := 3) (q := (RX4, TX4, 28)) rfl hrec, w_pre hC hM hS _⟩ rfl rfl hl.1 rfl (lv_room (Nat.le_of_ble_eq_true rfl)) dL_law_1713 (w_room0 hB)) hS (w_room0 hB) (fun _ _ _ _ _ _ h => False.elim h) (fun v333 M331 H locs hp hM hS => ?_)
                                                                refine lv_iload hx hb dL_law_1716 (lv_at hl 1 rfl) ?_
                                                                refine lv_icmp_eq (tgt := 1723) hx hb dL_law_1718 (by decide) (fun hc => ?_) (fun hc => ?_)
                                                                · have hp := oIf.t hp hc
                                                                  refine lv_iload hx hb dL_law_1723 (lv_at hl 1 rfl) ?_
                                                                  refine lv_if_ne (tgt := 1740) hx hb dL_law_1725 (by decide) (fun hc => ?_) (fun hc => ?_)
                                                                  · have hp := oIf.f hp hc
                                                                    exact hB1740 rec23 hrec23 _ _ _ _ _ _ _ _ _ _ _ _ hp hM hS hB (lv_sub hl [2, 3, 4, 5, 6] rfl)
                                                                  · have hp := oIf.t hp hc
                                                                    refine lv_aload_n hx hb dL_law_1728 rfl (lv_at hl 5 rfl) ?_
                                                                    refine lv_iconst (v := 0) hx hb dL_law_1729 (by decide) ?_
                                                                    refine x_lald X hC.1 hM dL_law_1730 hp (fun v334 hp => ?_)
                                                                    refine lv_iload hx hb dL_law_1731 (lv_at hl 0 rfl) ?_
                                                                    refine lv_i2l (v := v330.toInt64) hx hb dL_law_1733 rfl ?_
                                                                    refine W.lcmp hx hb dL_law_1734 ?_
                                                                    refine lv_if_eq (tgt := 1740) hx hb dL_law_1735 (by decide) (fun hc => ?_) (fun hc => ?_)
                                                                    · have hp := oIf.t hp hc
                                                                      exact hB1740 rec23 hrec23 _ _ _ _ _ _ _ _ _ _ _ _ hp hM hS hB (lv_sub hl [2, 3, 4, 5, 6] rfl)
                                                                    · have hp := oIf.f hp hc
                                                                      exact hp.elim
                                                                · have hp := oIf.f hp hc
                                                                  exact hp.elim
                                                              · have hp := oIf.f hp hc28
                                                                by_cases hc29 : (v2 &&& (63 : Int32)) = (29 : Int32)
                                                                · have hp := oIf.t hp hc29
                                                                  refine lv_tableIn (off := 1703) (tgt := 1743) hx hb dL_law_40 (by rw [hc29]; decide) (by rw [hc29]; decide) (by rw [hc29]; rfl) (by decide) ?_
                                                                  refine lv_aload_n hx hb dL_law_1743 rfl (lv_at hl 1 rfl) ?_
                                                                  refine lv_aload_n hx hb dL_law_1744 rfl (lv_at hl 0 rfl) ?_
                                                                  refine lv_iload hx hb dL_law_1745 (lv_at hl 4 rfl) ?_
                                                                  refine lv_iconst (v := 1) hx hb dL_law_1747 (by decide) ?_
                                                                  refine lv_iadd hx hb dL_law_1748 ?_
                                                                  refine x_iald X hC.1 hM dL_law_1749 hp (fun v335 hp => ?_)
                                                                  refine lv_aload_n hx hb dL_law_1750 rfl (lv_at hl 3 rfl) ?_
                                                                  obtain ⟨c337, hc1, hp⟩ := hp
                                                                  refine x_callI (vx_runSX (As := [.ref x1, .int v335, .ref x3]) (rest := []) X (P_X0_cancel_ok (l := l) hl0 hp) (vx_cwSW 3 hts (lw_SW q2700 q2701 q147 q2702) rfl rfl rfl (by decide +kernel) ⟨Nat.le_of_ble_eq_true rfl, Nat.le_of_ble_eq_true rfl⟩) ⟨wPc.blind, w_pre hC hM hS _⟩ rfl rfl hl.1 rfl (lv_room (Nat.le_of_ble_eq_true rfl)) dL_law_1751 (w_room hB hc1)) hS hB hc1 (fun _ _ _ _ _ _ h => False.elim h) (fun v338 M336 H locs hp hM hS hB => ?_)
                                                                  refine lv_istore (lv' := [(5, .int v338), (0, .ref x0), (1, .ref x1), (2, .ref x2), (3, .ref x3), (4, .int x4)]) hx hb dL_law_1754 hl (by decide) rfl (fun ls hl => ?_)
                                                                  refine lv_aload_n hx hb dL_law_1756 rfl (lv_at hl 3 rfl) ?_
                                                                  refine lv_aload_n hx hb dL_law_1757 rfl (lv_at hl 1 rfl) ?_
                                                                  refine lv_iload hx hb dL_law_1758 (lv_at hl 5 rfl) ?_
                                                                  refine lv_iconst (v := 1) hx hb dL_law_1760 (by decide) ?_
                                                                  refine lv_iadd hx hb dL_law_1761 ?_
                                                                  refine x_iald X hC.1 hM dL_law_1762 hp (fun v339 hp => ?_)
                                                                  obtain ⟨hrec, hp⟩ := hp
                                                                  refine x_call0I (vx_runV (As := [.int v339]) (rest := []) X (P_X4_cancel_ok (l := l) hl0 hp) (cwV 1 hts (lw_V q3371 q3372 q3373 q178 q3374) rfl rfl rfl (by decide +kernel) ⟨Nat.le_of_ble_eq_true rfl, Nat.le_of_ble_eq_true rfl⟩) ⟨wPc.blind, w_recv hC.1 hM (ci := 3) (q := (RX4, TX4, 28)) rfl hrec, w_pre hC hM hS _⟩ rfl rfl hl.1 rfl (lv_room (Nat.le_of_ble_eq_true rfl)) dL_law_1763 (w_room0 hB)) hS (w_room0 hB) (fun _ _ _ _ _ _ h => False.elim h) (fun v342 M340 H locs hp hM hS => ?_)
                                                                  refine lv_istore (lv' := [(6, .int v342), (5, .int v338), (0, .ref x0), (1, .ref x1), (2, .ref x2), (3, .ref x3), (4, .int x4)]) hx hb dL_law_1766 hl (by decide) rfl (fun ls hl => ?_)
                                                                  refine lv_aload_n hx hb dL_law_1768 rfl (lv_at hl 4 rfl) ?_
                                                                  obtain ⟨hrec, hp⟩ := hp
                                                                  refine x_call0I (vx_runV (As := []) (rest := []) X (P_X4_thrown_ok (l := l) hl0 hp) (cwV 0 hts (lw_V q3227 q3228 q3229 q178 q3230) rfl rfl rfl (by decide +kernel) ⟨Nat.le_of_ble_eq_true rfl, Nat.le_of_ble_eq_true rfl⟩) ⟨wPc.blind, w_recv hC.1 hM (ci := 3) (q := (RX4, TX4, 28)) rfl hrec, w_pre hC hM hS _⟩ rfl rfl hl.1 rfl (lv_room (Nat.le_of_ble_eq_true rfl)) dL_law_1769 (w_room0 hB)) hS (w_room0 hB) (fun _ _ _ _ _ _ h => False.elim h) (fun v345 M343 H locs hp hM hS => ?_)
                                                                  refine lv_iload hx hb dL_law_1772 (lv_at hl 1 rfl) ?_
                                                                  refine lv_icmp_eq (tgt := 1779) hx hb dL_law_1774 (by decide) (fun hc => ?_) (fun hc => ?_)
                                                                  · have hp := oIf.t hp hc
                                                                    refine lv_iload hx hb dL_law_1779 (lv_at hl 1 rfl) ?_
                                                                    refine lv_if_ne (tgt := 1796) hx hb dL_law_1781 (by decide) (fun hc => ?_) (fun hc => ?_)
                                                                    · have hp := oIf.f hp hc
                                                                      exact hB1796 rec23 hrec23 _ _ _ _ _ _ _ _ _ _ _ _ hp hM hS hB (lv_sub hl [2, 3, 4, 5, 6] rfl)
                                                                    · have hp := oIf.t hp hc
                                                                      refine lv_aload_n hx hb dL_law_1784 rfl (lv_at hl 5 rfl) ?_
                                                                      refine lv_iconst (v := 0) hx hb dL_law_1785 (by decide) ?_
                                                                      refine x_lald X hC.1 hM dL_law_1786 hp (fun v346 hp => ?_)
                                                                      refine lv_iload hx hb dL_law_1787 (lv_at hl 0 rfl) ?_
                                                                      refine lv_i2l (v := v342.toInt64) hx hb dL_law_1789 rfl ?_
                                                                      refine W.lcmp hx hb dL_law_1790 ?_
                                                                      refine lv_if_eq (tgt := 1796) hx hb dL_law_1791 (by decide) (fun hc => ?_) (fun hc => ?_)
                                                                      · have hp := oIf.t hp hc
                                                                        exact hB1796 rec23 hrec23 _ _ _ _ _ _ _ _ _ _ _ _ hp hM hS hB (lv_sub hl [2, 3, 4, 5, 6] rfl)
                                                                      · have hp := oIf.f hp hc
                                                                        exact hp.elim
                                                                  · have hp := oIf.f hp hc
                                                                    exact hp.elim
                                                                · have hp := oIf.f hp hc29
                                                                  by_cases hc30 : (v2 &&& (63 : Int32)) = (30 : Int32)
                                                                  · have hp := oIf.t hp hc30
                                                                    refine lv_tableIn (off := 1759) (tgt := 1799) hx hb dL_law_40 (by rw [hc30]; decide) (by rw [hc30]; decide) (by rw [hc30]; rfl) (by decide) ?_
                                                                    refine lv_aload_n hx hb dL_law_1799 rfl (lv_at hl 1 rfl) ?_
                                                                    refine lv_aload_n hx hb dL_law_1800 rfl (lv_at hl 0 rfl) ?_
                                                                    refine lv_iload hx hb dL_law_1801 (lv_at hl 4 rfl) ?_
                                                                    refine lv_iconst (v := 1) hx hb dL_law_1803 (by decide) ?_
                                                                    refine lv_iadd hx hb dL_law_1804 ?_
                                                                    refine x_iald X hC.1 hM dL_law_1805 hp (fun v347 hp => ?_)
                                                                    refine lv_aload_n hx hb dL_law_1806 rfl (lv_at hl 0 rfl) ?_
                                                                    refine lv_iload hx hb dL_law_1807 (lv_at hl 4 rfl) ?_
                                                                    refine lv_iconst (v := 2) hx hb dL_law_1809 (by decide) ?_
                                                                    refine lv_iadd hx hb dL_law_1810 ?_
                                                                    refine x_iald X hC.1 hM dL_law_1811 hp (fun v348 hp => ?_)
                                                                    refine lv_aload_n hx hb dL_law_1812 rfl (lv_at hl 0 rfl) ?_
                                                                    refine lv_iload hx hb dL_law_1813 (lv_at hl 4 rfl) ?_
                                                                    refine lv_iconst (v := 3) hx hb dL_law_1815 (by decide) ?_
                                                                    refine lv_iadd hx hb dL_law_1816 ?_
                                                                    refine x_iald X hC.1 hM dL_law_1817 hp (fun v349 hp => ?_)
                                                                    refine lv_aload_n hx hb dL_law_1818 rfl (lv_at hl 3 rfl) ?_
                                                                    obtain ⟨c351, hc1, hp⟩ := hp
                                                                    refine x_callI (vx_runSX (As := [.ref x1, .int v347, .int v348, .int v349, .ref x3]) (rest := []) X (P_X0_admit_ok (l := l) hl0 hp) (vx_cwSW 5 hts (lw_SW q2707 q2708 q147 q2709) rfl rfl rfl (by decide +kernel) ⟨Nat.le_of_ble_eq_true rfl, Nat.le_of_ble_eq_true rfl⟩) ⟨wPc.blind, w_pre hC hM hS _⟩ rfl rfl hl.1 rfl (lv_room (Nat.le_of_ble_eq_true rfl)) dL_law_1819 (w_room hB hc1)) hS hB hc1 (fun _ _ _ _ _ _ h => False.elim h) (fun v352 M350 H locs hp hM hS hB => ?_)
                                                                    refine lv_istore (lv' := [(5, .int v352), (0, .ref x0), (1, .ref x1), (2, .ref x2), (3, .ref x3), (4, .int x4)]) hx hb dL_law_1822 hl (by decide) rfl (fun ls hl => ?_)
                                                                    refine lv_aload_n hx hb dL_law_1824 rfl (lv_at hl 3 rfl) ?_
                                                                    refine lv_aload_n hx hb dL_law_1825 rfl (lv_at hl 1 rfl) ?_
                                                                    refine lv_iload hx hb dL_law_1826 (lv_at hl 5 rfl) ?_
                                                                    refine lv_iconst (v := 1) hx hb dL_law_1828 (by decide) ?_
                                                                    refine lv_iadd hx hb dL_law_1829 ?_
                                                                    refine x_iald X hC.1 hM dL_law_1830 hp (fun v353 hp => ?_)
                                                                    refine lv_aload_n hx hb dL_law_1831 rfl (lv_at hl 1 rfl) ?_
                                                                    refine lv_iload hx hb dL_law_1832 (lv_at hl 5 rfl) ?_
                                                                    refine lv_iconst (v := 2) hx hb dL_law_1834 (by decide) ?_
                                                                    refine lv_iadd hx hb dL_law_1835 ?_
                                                                    refine x_iald X hC.1 hM dL_law_1836 hp (fun v354 hp => ?_)
                                                                    refine lv_aload_n hx hb dL_law_1837 rfl (lv_at hl 1 rfl) ?_
                                                                    refine lv_iload hx hb dL_law_1838 (lv_at hl 5 rfl) ?_
                                                                    refine lv_iconst (v := 3) hx hb dL_law_1840 (by decide) ?_
                                                                    refine lv_iadd hx hb dL_law_1841 ?_
                                                                    refine x_iald X hC.1 hM dL_law_1842 hp (fun v355 hp => ?_)
                                                                    obtain ⟨hrec, hp⟩ := hp
                                                                    refine x_call0I (vx_runV (As := [.int v353, .int v354, .int v355]) (rest := []) X (P_X4_admit_ok (l := l) hl0 hp) (cwV 3 hts (lw_V q3400 q3401 q3402 q178 q3403) rfl rfl rfl (by decide +kernel) ⟨Nat.le_of_ble_eq_true rfl, Nat.le_of_ble_eq_true rfl⟩) ⟨wPc.blind, w_recv hC.1 hM (ci := 3) (q := (RX4, TX4, 28)) rfl hrec, w_pre hC hM hS _⟩ rfl rfl hl.1 rfl (lv_room (Nat.le_of_ble_eq_true rfl)) dL_law_1843 (w_room0 hB)) hS (w_room0 hB) (fun _ _ _ _ _ _ h => False.elim h) (fun v358 M356 H locs hp hM hS => ?_)
                                                                    refine lv_istore (lv' := [(6, .int v358), (5, .int v352), (0, .ref x0), (1, .ref x1), (2, .ref x2), (3, .ref x3), (4, .int x4)]) hx hb dL_law_1846 hl (by decide) rfl (fun ls hl => ?_)
                                                                    refine lv_aload_n hx hb dL_law_1848 rfl (lv_at hl 4 rfl) ?_
                                                                    obtain ⟨hrec, hp⟩ := hp
                                                                    refine x_call0I (vx_runV (As := []) (rest := []) X (P_X4_thrown_ok (l := l) hl0 hp) (cwV 0 hts (lw_V q3227 q3228 q3229 q178 q3230) rfl rfl rfl (by decide +kernel) ⟨Nat.le_of_ble_eq_true rfl, Nat.le_of_ble_eq_true rfl⟩) ⟨wPc.blind, w_recv hC.1 hM (ci := 3) (q := (RX4, TX4, 28)) rfl hrec, w_pre hC hM hS _⟩ rfl rfl hl.1 rfl (lv_room (Nat.le_of_ble_eq_true rfl)) dL_law_1849 (w_room0 hB)) hS (w_room0 hB) (fun _ _ _ _ _ _ h => False.elim h) (fun v361 M359 H locs hp hM hS => ?_)
                                                                    refine lv_iload hx hb dL_law_1852 (lv_at hl 1 rfl) ?_
                                                                    refine lv_icmp_eq (tgt := 1859) hx hb dL_law_1854 (by decide) (fun hc => ?_) (fun hc => ?_)
                                                                    · have hp := oIf.t hp hc
                                                                      refine lv_iload hx hb dL_law_1859 (lv_at hl 1 rfl) ?_
                                                                      refine lv_if_ne (tgt := 1876) hx hb dL_law_1861 (by decide) (fun hc => ?_) (fun hc => ?_)
                                                                      · have hp := oIf.f hp hc
                                                                        exact hB1876 rec23 hrec23 _ _ _ _ _ _ _ _ _ _ _ _ hp hM hS hB (lv_sub hl [2, 3, 4, 5, 6] rfl)
                                                                      · have hp := oIf.t hp hc
                                                                        refine lv_aload_n hx hb dL_law_1864 rfl (lv_at hl 5 rfl) ?_
                                                                        refine lv_iconst (v := 0) hx hb dL_law_1865 (by decide) ?_
                                                                        refine x_lald X hC.1 hM dL_law_1866 hp (fun v362 hp => ?_)
                                                                        refine lv_iload hx hb dL_law_1867 (lv_at hl 0 rfl) ?_
                                                                        refine lv_i2l (v := v358.toInt64) hx hb dL_law_1869 rfl ?_
                                                                        refine W.lcmp hx hb dL_law_1870 ?_
                                                                        refine lv_if_eq (tgt := 1876) hx hb dL_law_1871 (by decide) (fun hc => ?_) (fun hc => ?_)
                                                                        · have hp := oIf.t hp hc
                                                                          exact hB1876 rec23 hrec23 _ _ _ _ _ _ _ _ _ _ _ _ hp hM hS hB (lv_sub hl [2, 3, 4, 5, 6] rfl)
                                                                        · have hp := oIf.f hp hc
                                                                          exact hp.elim
                                                                    · have hp := oIf.f hp hc
                                                                      exact hp.elim
                                                                  · have hp := oIf.f hp hc30
                                                                    by_cases hc31 : (v2 &&& (63 : Int32)) = (31 : Int32)
                                                                    · have hp := oIf.t hp hc31
                                                                      refine lv_tableIn (off := 1839) (tgt := 1879) hx hb dL_law_40 (by rw [hc31]; decide) (by rw [hc31]; decide) (by rw [hc31]; rfl) (by decide) ?_
                                                                      refine lv_aload_n hx hb dL_law_1879 rfl (lv_at hl 1 rfl) ?_
                                                                      refine lv_aload_n hx hb dL_law_1880 rfl (lv_at hl 0 rfl) ?_
                                                                      refine lv_iload hx hb dL_law_1881 (lv_at hl 4 rfl) ?_
                                                                      refine lv_iconst (v := 1) hx hb dL_law_1883 (by decide) ?_
                                                                      refine lv_iadd hx hb dL_law_1884 ?_
                                                                      refine x_iald X hC.1 hM dL_law_1885 hp (fun v363 hp => ?_)
                                                                      refine lv_aload_n hx hb dL_law_1886 rfl (lv_at hl 0 rfl) ?_
                                                                      refine lv_iload hx hb dL_law_1887 (lv_at hl 4 rfl) ?_
                                                                      refine lv_iconst (v := 2) hx hb dL_law_1889 (by decide) ?_
                                                                      refine lv_iadd hx hb dL_law_1890 ?_
                                                                      refine x_iald X hC.1 hM dL_law_1891 hp (fun v364 hp => ?_)
                                                                      refine lv_aload_n hx hb dL_law_1892 rfl (lv_at hl 3 rfl) ?_
                                                                      obtain ⟨c366, hc1, hp⟩ := hp
                                                                      refine x_callI (vx_runSX (As := [.ref x1, .int v363, .int v364, .ref x3]) (rest := []) X (P_X0_extend_ok (l := l) hl0 hp) (vx_cwSW 4 hts (lw_SW q2745 q2746 q147 q2747) rfl rfl rfl (by decide +kernel) ⟨Nat.le_of_ble_eq_true rfl, Nat.le_of_ble_eq_true rfl⟩) ⟨wPc.blind, w_pre hC hM hS _⟩ rfl rfl hl.1 rfl (lv_room (Nat.le_of_ble_eq_true rfl)) dL_law_1893 (w_room hB hc1)) hS hB hc1 (fun _ _ _ _ _ _ h => False.elim h) (fun v367 M365 H locs hp hM hS hB => ?_)
                                                                      refine lv_istore (lv' := [(5, .int v367), (0, .ref x0), (1, .ref x1), (2, .ref x2), (3, .ref x3), (4, .int x4)]) hx hb dL_law_1896 hl (by decide) rfl (fun ls hl => ?_)
                                                                      refine lv_aload_n hx hb dL_law_1898 rfl (lv_at hl 3 rfl) ?_
                                                                      refine lv_aload_n hx hb dL_law_1899 rfl (lv_at hl 1 rfl) ?_
                                                                      refine lv_iload hx hb dL_law_1900 (lv_at hl 5 rfl) ?_
                                                                      refine lv_iconst (v := 1) hx hb dL_law_1902 (by decide) ?_
                                                                      refine lv_iadd hx hb dL_law_1903 ?_
                                                                      refine x_iald X hC.1 hM dL_law_1904 hp (fun v368 hp => ?_)
                                                                      refine lv_aload_n hx hb dL_law_1905 rfl (lv_at hl 1 rfl) ?_
                                                                      refine lv_iload hx hb dL_law_1906 (lv_at hl 5 rfl) ?_
                                                                      refine lv_iconst (v := 2) hx hb dL_law_1908 (by decide) ?_
                                                                      refine lv_iadd hx hb dL_law_1909 ?_
                                                                      refine x_iald X hC.1 hM dL_law_1910 hp (fun v369 hp => ?_)
                                                                      obtain ⟨hrec, hp⟩ := hp
                                                                      refine x_call0I (vx_runV (As := [.int v368, .int v369]) (rest := []) X (P_X4_extend_ok (l := l) hl0 hp) (cwV 2 hts (lw_V q3428 q3429 q3430 q178 q3431) rfl rfl rfl (by decide +kernel) ⟨Nat.le_of_ble_eq_true rfl, Nat.le_of_ble_eq_true rfl⟩) ⟨wPc.blind, w_recv hC.1 hM (ci := 3) (q := (RX4, TX4, 28)) rfl hrec, w_pre hC hM hS _⟩ rfl rfl hl.1 rfl (lv_room (Nat.le_of_ble_eq_true rfl)) dL_law_1911 (w_room0 hB)) hS (w_room0 hB) (fun _ _ _ _ _ _ h => False.elim h) (fun v372 M370 H locs hp hM hS => ?_)
                                                                      refine lv_istore (lv' := [(6, .int v372), (5, .int v367), (0, .ref x0), (1, .ref x1), (2, .ref x2), (3, .ref x3), (4, .int x4)]) hx hb dL_law_1914 hl (by decide) rfl (fun ls hl => ?_)
                                                                      refine lv_aload_n hx hb dL_law_1916 rfl (lv_at hl 4 rfl) ?_
                                                                      obtain ⟨hrec, hp⟩ := hp
                                                                      refine x_call0I (vx_runV (As := []) (rest := []) X (P_X4_thrown_ok (l := l) hl0 hp) (cwV 0 hts (lw_V q3227 q3228 q3229 q178 q3230) rfl rfl rfl (by decide +kernel) ⟨Nat.le_of_ble_eq_true rfl, Nat.le_of_ble_eq_true rfl⟩) ⟨wPc.blind, w_recv hC.1 hM (ci := 3) (q := (RX4, TX4, 28)) rfl hrec, w_pre hC hM hS _⟩ rfl rfl hl.1 rfl (lv_room (Nat.le_of_ble_eq_true rfl)) dL_law_1917 (w_room0 hB)) hS (w_room0 hB) (fun _ _ _ _ _ _ h => False.elim h) (fun v375 M373 H locs hp hM hS => ?_)
                                                                      refine lv_iload hx hb dL_law_1920 (lv_at hl 1 rfl) ?_
                                                                      refine lv_icmp_eq (tgt := 1927) hx hb dL_law_1922 (by decide) (fun hc => ?_) (fun hc => ?_)
                                                                      · have hp := oIf.t hp hc
                                                                        refine lv_iload hx hb dL_law_1927 (lv_at hl 1 rfl) ?_
                                                                        refine lv_if_ne (tgt := 1944) hx hb dL_law_1929 (by decide) (fun hc => ?_) (fun hc => ?_)
                                                                        · have hp := oIf.f hp hc
                                                                          exact hB1944 rec23 hrec23 _ _ _ _ _ _ _ _ _ _ _ _ hp hM hS hB (lv_sub hl [2, 3, 4, 5, 6] rfl)
                                                                        · have hp := oIf.t hp hc
                                                                          refine lv_aload_n hx hb dL_law_1932 rfl (lv_at hl 5 rfl) ?_
                                                                          refine lv_iconst (v := 0) hx hb dL_law_1933 (by decide) ?_
                                                                          refine x_lald X hC.1 hM dL_law_1934 hp (fun v376 hp => ?_)
                                                                          refine lv_iload hx hb dL_law_1935 (lv_at hl 0 rfl) ?_
                                                                          refine lv_i2l (v := v372.toInt64) hx hb dL_law_1937 rfl ?_
                                                                          refine W.lcmp hx hb dL_law_1938 ?_
                                                                          refine lv_if_eq (tgt := 1944) hx hb dL_law_1939 (by decide) (fun hc => ?_) (fun hc => ?_)
                                                                          · have hp := oIf.t hp hc
                                                                            exact hB1944 rec23 hrec23 _ _ _ _ _ _ _ _ _ _ _ _ hp hM hS hB (lv_sub hl [2, 3, 4, 5, 6] rfl)
                                                                          · have hp := oIf.f hp hc
                                                                            exact hp.elim
                                                                      · have hp := oIf.f hp hc
                                                                        exact hp.elim
                                                                    · have hp := oIf.f hp hc31
                                                                      by_cases hc32 : (v2 &&& (63 : Int32)) = (32 : Int32)
                                                                      · have hp := oIf.t hp hc32
                                                                        refine lv_tableIn (off := 1907) (tgt := 1947) hx hb dL_law_40 (by rw [hc32]; decide) (by rw [hc32]; decide) (by rw [hc32]; rfl) (by decide) ?_
                                                                        refine lv_aload_n hx hb dL_law_1947 rfl (lv_at hl 1 rfl) ?_
                                                                        refine lv_aload_n hx hb dL_law_1948 rfl (lv_at hl 0 rfl) ?_
                                                                        refine lv_iload hx hb dL_law_1949 (lv_at hl 4 rfl) ?_
                                                                        refine lv_iconst (v := 1) hx hb dL_law_1951 (by decide) ?_
                                                                        refine lv_iadd hx hb dL_law_1952 ?_
                                                                        refine x_iald X hC.1 hM dL_law_1953 hp (fun v377 hp => ?_)
                                                                        refine lv_aload_n hx hb dL_law_1954 rfl (lv_at hl 3 rfl) ?_
                                                                        obtain ⟨c379, hc1, hp⟩ := hp
                                                                        refine x_callI (vx_runSX (As := [.ref x1, .int v377, .ref x3]) (rest := []) X (P_X0_endVisit_ok (l := l) hl0 hp) (vx_cwSW 3 hts (lw_SW q2756 q2757 q147 q2758) rfl rfl rfl (by decide +kernel) ⟨Nat.le_of_ble_eq_true rfl, Nat.le_of_ble_eq_true rfl⟩) ⟨wPc.blind, w_pre hC hM hS _⟩ rfl rfl hl.1 rfl (lv_room (Nat.le_of_ble_eq_true rfl)) dL_law_1955 (w_room hB hc1)) hS hB hc1 (fun _ _ _ _ _ _ h => False.elim h) (fun v380 M378 H locs hp hM hS hB => ?_)
                                                                        refine lv_istore (lv' := [(5, .int v380), (0, .ref x0), (1, .ref x1), (2, .ref x2), (3, .ref x3), (4, .int x4)]) hx hb dL_law_1958 hl (by decide) rfl (fun ls hl => ?_)
                                                                        refine lv_aload_n hx hb dL_law_1960 rfl (lv_at hl 3 rfl) ?_
                                                                        refine lv_aload_n hx hb dL_law_1961 rfl (lv_at hl 1 rfl) ?_
                                                                        refine lv_iload hx hb dL_law_1962 (lv_at hl 5 rfl) ?_
                                                                        refine lv_iconst (v := 1) hx hb dL_law_1964 (by decide) ?_
                                                                        refine lv_iadd hx hb dL_law_1965 ?_
                                                                        refine x_iald X hC.1 hM dL_law_1966 hp (fun v381 hp => ?_)
                                                                        obtain ⟨hrec, hp⟩ := hp
                                                                        refine x_call0I (vx_runV (As := [.int v381]) (rest := []) X (P_X4_endVisit_ok (l := l) hl0 hp) (cwV 1 hts (lw_V q3436 q3437 q3438 q178 q3439) rfl rfl rfl (by decide +kernel) ⟨Nat.le_of_ble_eq_true rfl, Nat.le_of_ble_eq_true rfl⟩) ⟨wPc.blind, w_recv hC.1 hM (ci := 3) (q := (RX4, TX4, 28)) rfl hrec, w_pre hC hM hS _⟩ rfl rfl hl.1 rfl (lv_room (Nat.le_of_ble_eq_true rfl)) dL_law_1967 (w_room0 hB)) hS (w_room0 hB) (fun _ _ _ _ _ _ h => False.elim h) (fun v384 M382 H locs hp hM hS => ?_)
                                                                        refine lv_istore (lv' := [(6, .int v384), (5, .int v380), (0, .ref x0), (1, .ref x1), (2, .ref x2), (3, .ref x3), (4, .int x4)]) hx hb dL_law_1970 hl (by decide) rfl (fun ls hl => ?_)
                                                                        refine lv_aload_n hx hb dL_law_1972 rfl (lv_at hl 4 rfl) ?_
                                                                        obtain ⟨hrec, hp⟩ := hp
                                                                        refine x_call0I (vx_runV (As := []) (rest := []) X (P_X4_thrown_ok (l := l) hl0 hp) (cwV 0 hts (lw_V q3227 q3228 q3229 q178 q3230) rfl rfl rfl (by decide +kernel) ⟨Nat.le_of_ble_eq_true rfl, Nat.le_of_ble_eq_true rfl⟩) ⟨wPc.blind, w_recv hC.1 hM (ci := 3) (q := (RX4, TX4, 28)) rfl hrec, w_pre hC hM hS _⟩ rfl rfl hl.1 rfl (lv_room (Nat.le_of_ble_eq_true rfl)) dL_law_1973 (w_room0 hB)) hS (w_room0 hB) (fun _ _ _ _ _ _ h => False.elim h) (fun v387 M385 H locs hp hM hS => ?_)
                                                                        refine lv_iload hx hb dL_law_1976 (lv_at hl 1 rfl) ?_
                                                                        refine lv_icmp_eq (tgt := 1983) hx hb dL_law_1978 (by decide) (fun hc => ?_) (fun hc => ?_)
                                                                        · have hp := oIf.t hp hc
                                                                          refine lv_iload hx hb dL_law_1983 (lv_at hl 1 rfl) ?_
                                                                          refine lv_if_ne (tgt := 2000) hx hb dL_law_1985 (by decide) (fun hc => ?_) (fun hc => ?_)
                                                                          · have hp := oIf.f hp hc
                                                                            exact hB2000 rec23 hrec23 _ _ _ _ _ _ _ _ _ _ _ _ hp hM hS hB (lv_sub hl [2, 3, 4, 5, 6] rfl)
                                                                          · have hp := oIf.t hp hc
                                                                            refine lv_aload_n hx hb dL_law_1988 rfl (lv_at hl 5 rfl) ?_
                                                                            refine lv_iconst (v := 0) hx hb dL_law_1989 (by decide) ?_
                                                                            refine x_lald X hC.1 hM dL_law_1990 hp (fun v388 hp => ?_)
                                                                            refine lv_iload hx hb dL_law_1991 (lv_at hl 0 rfl) ?_
                                                                            refine lv_i2l (v := v384.toInt64) hx hb dL_law_1993 rfl ?_
                                                                            refine W.lcmp hx hb dL_law_1994 ?_
                                                                            refine lv_if_eq (tgt := 2000) hx hb dL_law_1995 (by decide) (fun hc => ?_) (fun hc => ?_)
                                                                            · have hp := oIf.t hp hc
                                                                              exact hB2000 rec23 hrec23 _ _ _ _ _ _ _ _ _ _ _ _ hp hM hS hB (lv_sub hl [2, 3, 4, 5, 6] rfl)
                                                                            · have hp := oIf.f hp hc
                                                                              exact hp.elim
                                                                        · have hp := oIf.f hp hc
                                                                          exact hp.elim
                                                                      · have hp := oIf.f hp hc32
                                                                        by_cases hc33 : (v2 &&& (63 : Int32)) = (33 : Int32)
                                                                        · have hp := oIf.t hp hc33
                                                                          refine lv_tableIn (off := 1963) (tgt := 2003) hx hb dL_law_40 (by rw [hc33]; decide) (by rw [hc33]; decide) (by rw [hc33]; rfl) (by decide) ?_
                                                                          refine lv_aload_n hx hb dL_law_2003 rfl (lv_at hl 1 rfl) ?_
                                                                          refine lv_aload_n hx hb dL_law_2004 rfl (lv_at hl 0 rfl) ?_
                                                                          refine lv_iload hx hb dL_law_2005 (lv_at hl 4 rfl) ?_
                                                                          refine lv_iconst (v := 1) hx hb dL_law_2007 (by decide) ?_
                                                                          refine lv_iadd hx hb dL_law_2008 ?_
                                                                          refine x_iald X hC.1 hM dL_law_2009 hp (fun v389 hp => ?_)
                                                                          refine lv_aload_n hx hb dL_law_2010 rfl (lv_at hl 0 rfl) ?_
                                                                          refine lv_iload hx hb dL_law_2011 (lv_at hl 4 rfl) ?_
                                                                          refine lv_iconst (v := 2) hx hb dL_law_2013 (by decide) ?_
                                                                          refine lv_iadd hx hb dL_law_2014 ?_
                                                                          refine x_iald X hC.1 hM dL_law_2015 hp (fun v390 hp => ?_)
                                                                          refine lv_aload_n hx hb dL_law_2016 rfl (lv_at hl 3 rfl) ?_
                                                                          obtain ⟨c392, hc1, hp⟩ := hp
                                                                          refine x_callI (vx_runSX (As := [.ref x1, .int v389, .int v390, .ref x3]) (rest := []) X (P_X0_park_ok (l := l) hl0 hp) (vx_cwSW 4 hts (lw_SW q2764 q2765 q147 q2766) rfl rfl rfl (by decide +kernel) ⟨Nat.le_of_ble_eq_true rfl, Nat.le_of_ble_eq_true rfl⟩) ⟨wPc.blind, w_pre hC hM hS _⟩ rfl rfl hl.1 rfl (lv_room (Nat.le_of_ble_eq_true rfl)) dL_law_2017 (w_room hB hc1)) hS hB hc1 (fun _ _ _ _ _ _ h => False.elim h) (fun v393 M391 H locs hp hM hS hB => ?_)
                                                                          refine lv_istore (lv' := [(5, .int v393), (0, .ref x0), (1, .ref x1), (2, .ref x2), (3, .ref x3), (4, .int x4)]) hx hb dL_law_2020 hl (by decide) rfl (fun ls hl => ?_)
                                                                          refine lv_aload_n hx hb dL_law_2022 rfl (lv_at hl 3 rfl) ?_
                                                                          refine lv_aload_n hx hb dL_law_2023 rfl (lv_at hl 1 rfl) ?_
                                                                          refine lv_iload hx hb dL_law_2024 (lv_at hl 5 rfl) ?_
                                                                          refine lv_iconst (v := 1) hx hb dL_law_2026 (by decide) ?_
                                                                          refine lv_iadd hx hb dL_law_2027 ?_
                                                                          refine x_iald X hC.1 hM dL_law_2028 hp (fun v394 hp => ?_)
                                                                          refine lv_aload_n hx hb dL_law_2029 rfl (lv_at hl 1 rfl) ?_
                                                                          refine lv_iload hx hb dL_law_2030 (lv_at hl 5 rfl) ?_
                                                                          refine lv_iconst (v := 2) hx hb dL_law_2032 (by decide) ?_
                                                                          refine lv_iadd hx hb dL_law_2033 ?_
                                                                          refine x_iald X hC.1 hM dL_law_2034 hp (fun v395 hp => ?_)
                                                                          obtain ⟨hrec, hp⟩ := hp
                                                                          refine x_call0I (vx_runV (As := [.int v394, .int v395]) (rest := []) X (P_X4_park_ok (l := l) hl0 hp) (cwV 2 hts (lw_V q3445 q3446 q3447 q178 q3448) rfl rfl rfl (by decide +kernel) ⟨Nat.le_of_ble_eq_true rfl, Nat.le_of_ble_eq_true rfl⟩) ⟨wPc.blind, w_recv hC.1 hM (ci := 3) (q := (RX4, TX4, 28)) rfl hrec, w_pre hC hM hS _⟩ rfl rfl hl.1 rfl (lv_room (Nat.le_of_ble_eq_true rfl)) dL_law_2035 (w_room0 hB)) hS (w_room0 hB) (fun _ _ _ _ _ _ h => False.elim h) (fun v398 M396 H locs hp hM hS => ?_)
                                                                          refine lv_istore (lv' := [(6, .int v398), (5, .int v393), (0, .ref x0), (1, .ref x1), (2, .ref x2), (3, .ref x3), (4, .int x4)]) hx hb dL_law_2038 hl (by decide) rfl (fun ls hl => ?_)
                                                                          refine lv_aload_n hx hb dL_law_2040 rfl (lv_at hl 4 rfl) ?_
                                                                          obtain ⟨hrec, hp⟩ := hp
                                                                          refine x_call0I (vx_runV (As := []) (rest := []) X (P_X4_thrown_ok (l := l) hl0 hp) (cwV 0 hts (lw_V q3227 q3228 q3229 q178 q3230) rfl rfl rfl (by decide +kernel) ⟨Nat.le_of_ble_eq_true rfl, Nat.le_of_ble_eq_true rfl⟩) ⟨wPc.blind, w_recv hC.1 hM (ci := 3) (q := (RX4, TX4, 28)) rfl hrec, w_pre hC hM hS _⟩ rfl rfl hl.1 rfl (lv_room (Nat.le_of_ble_eq_true rfl)) dL_law_2041 (w_room0 hB)) hS (w_room0 hB) (fun _ _ _ _ _ _ h => False.elim h) (fun v401 M399 H locs hp hM hS => ?_)
                                                                          refine lv_iload hx hb dL_law_2044 (lv_at hl 1 rfl) ?_
                                                                          refine lv_icmp_eq (tgt := 2051) hx hb dL_law_2046 (by decide) (fun hc => ?_) (fun hc => ?_)
                                                                          · have hp := oIf.t hp hc
                                                                            refine lv_iload hx hb dL_law_2051 (lv_at hl 1 rfl) ?_
                                                                            refine lv_if_ne (tgt := 2068) hx hb dL_law_2053 (by decide) (fun hc => ?_) (fun hc => ?_)
                                                                            · have hp := oIf.f hp hc
                                                                              exact hB2068 rec23 hrec23 _ _ _ _ _ _ _ _ _ _ _ _ hp hM hS hB (lv_sub hl [2, 3, 4, 5, 6] rfl)
                                                                            · have hp := oIf.t hp hc
                                                                              refine lv_aload_n hx hb dL_law_2056 rfl (lv_at hl 5 rfl) ?_
                                                                              refine lv_iconst (v := 0) hx hb dL_law_2057 (by decide) ?_
                                                                              refine x_lald X hC.1 hM dL_law_2058 hp (fun v402 hp => ?_)
                                                                              refine lv_iload hx hb dL_law_2059 (lv_at hl 0 rfl) ?_
                                                                              refine lv_i2l (v := v398.toInt64) hx hb dL_law_2061 rfl ?_
                                                                              refine W.lcmp hx hb dL_law_2062 ?_
                                                                              refine lv_if_eq (tgt := 2068) hx hb dL_law_2063 (by decide) (fun hc => ?_) (fun hc => ?_)
                                                                              · have hp := oIf.t hp hc
                                                                                exact hB2068 rec23 hrec23 _ _ _ _ _ _ _ _ _ _ _ _ hp hM hS hB (lv_sub hl [2, 3, 4, 5, 6] rfl)
                                                                              · have hp := oIf.f hp hc
                                                                                exact hp.elim
                                                                          · have hp := oIf.f hp hc
                                                                            exact hp.elim
                                                                        · have hp := oIf.f hp hc33
                                                                          by_cases hc34 : (v2 &&& (63 : Int32)) = (34 : Int32)
                                                                          · have hp := oIf.t hp hc34
                                                                            refine lv_tableIn (off := 2031) (tgt := 2071) hx hb dL_law_40 (by rw [hc34]; decide) (by rw [hc34]; decide) (by rw [hc34]; rfl) (by decide) ?_
                                                                            refine lv_aload_n hx hb dL_law_2071 rfl (lv_at hl 1 rfl) ?_
                                                                            refine lv_aload_n hx hb dL_law_2072 rfl (lv_at hl 0 rfl) ?_
                                                                            refine lv_iload hx hb dL_law_2073 (lv_at hl 4 rfl) ?_
                                                                            refine lv_iconst (v := 1) hx hb dL_law_2075 (by decide) ?_
                                                                            refine lv_iadd hx hb dL_law_2076 ?_
                                                                            refine x_iald X hC.1 hM dL_law_2077 hp (fun v403 hp => ?_)
                                                                            refine lv_aload_n hx hb dL_law_2078 rfl (lv_at hl 3 rfl) ?_
                                                                            obtain ⟨c405, hc1, hp⟩ := hp
                                                                            refine x_callI (vx_runSX (As := [.ref x1, .int v403, .ref x3]) (rest := []) X (P_X0_leave_ok (l := l) hl0 hp) (vx_cwSW 3 hts (lw_SW q2799 q2800 q147 q2801) rfl rfl rfl (by decide +kernel) ⟨Nat.le_of_ble_eq_true rfl, Nat.le_of_ble_eq_true rfl⟩) ⟨wPc.blind, w_pre hC hM hS _⟩ rfl rfl hl.1 rfl (lv_room (Nat.le_of_ble_eq_true rfl)) dL_law_2079 (w_room hB hc1)) hS hB hc1 (fun _ _ _ _ _ _ h => False.elim h) (fun v406 M404 H locs hp hM hS hB => ?_)
                                                                            refine lv_istore (lv' := [(5, .int v406), (0, .ref x0), (1, .ref x1), (2, .ref x2), (3, .ref x3), (4, .int x4)]) hx hb dL_law_2082 hl (by decide) rfl (fun ls hl => ?_)
                                                                            refine lv_aload_n hx hb dL_law_2084 rfl (lv_at hl 3 rfl) ?_
                                                                            refine lv_aload_n hx hb dL_law_2085 rfl (lv_at hl 1 rfl) ?_
                                                                            refine lv_iload hx hb dL_law_2086 (lv_at hl 5 rfl) ?_
                                                                            refine lv_iconst (v := 1) hx hb dL_law_2088 (by decide) ?_
                                                                            refine lv_iadd hx hb dL_law_2089 ?_
                                                                            refine x_iald X hC.1 hM dL_law_2090 hp (fun v407 hp => ?_)
                                                                            obtain ⟨hrec, hp⟩ := hp
                                                                            refine x_call0I (vx_runV (As := [.int v407]) (rest := []) X (P_X4_leave_ok (l := l) hl0 hp) (cwV 1 hts (lw_V q3473 q3474 q3475 q178 q3476) rfl rfl rfl (by decide +kernel) ⟨Nat.le_of_ble_eq_true rfl, Nat.le_of_ble_eq_true rfl⟩) ⟨wPc.blind, w_recv hC.1 hM (ci := 3) (q := (RX4, TX4, 28)) rfl hrec, w_pre hC hM hS _⟩ rfl rfl hl.1 rfl (lv_room (Nat.le_of_ble_eq_true rfl)) dL_law_2091 (w_room0 hB)) hS (w_room0 hB) (fun _ _ _ _ _ _ h => False.elim h) (fun v410 M408 H locs hp hM hS => ?_)
                                                                            refine lv_istore (lv' := [(6, .int v410), (5, .int v406), (0, .ref x0), (1, .ref x1), (2, .ref x2), (3, .ref x3), (4, .int x4)]) hx hb dL_law_2094 hl (by decide) rfl (fun ls hl => ?_)
                                                                            refine lv_aload_n hx hb dL_law_2096 rfl (lv_at hl 4 rfl) ?_
                                                                            obtain ⟨hrec, hp⟩ := hp
                                                                            refine x_call0I (vx_runV (As := []) (rest := []) X (P_X4_thrown_ok (l := l) hl0 hp) (cwV 0 hts (lw_V q3227 q3228 q3229 q178 q3230) rfl rfl rfl (by decide +kernel) ⟨Nat.le_of_ble_eq_true rfl, Nat.le_of_ble_eq_true rfl⟩) ⟨wPc.blind, w_recv hC.1 hM (ci := 3) (q := (RX4, TX4, 28)) rfl hrec, w_pre hC hM hS _⟩ rfl rfl hl.1 rfl (lv_room (Nat.le_of_ble_eq_true rfl)) dL_law_2097 (w_room0 hB)) hS (w_room0 hB) (fun _ _ _ _ _ _ h => False.elim h) (fun v413 M411 H locs hp hM hS => ?_)
                                                                            refine lv_iload hx hb dL_law_2100 (lv_at hl 1 rfl) ?_
                                                                            refine lv_icmp_eq (tgt := 2107) hx hb dL_law_2102 (by decide) (fun hc => ?_) (fun hc => ?_)
                                                                            · have hp := oIf.t hp hc
                                                                              refine lv_iload hx hb dL_law_2107 (lv_at hl 1 rfl) ?_
                                                                              refine lv_if_ne (tgt := 2124) hx hb dL_law_2109 (by decide) (fun hc => ?_) (fun hc => ?_)
                                                                              · have hp := oIf.f hp hc
                                                                                exact hB2124 rec23 hrec23 _ _ _ _ _ _ _ _ _ _ _ _ hp hM hS hB (lv_sub hl [2, 3, 4, 5, 6] rfl)
                                                                              · have hp := oIf.t hp hc
                                                                                refine lv_aload_n hx hb dL_law_2112 rfl (lv_at hl 5 rfl) ?_
                                                                                refine lv_iconst (v := 0) hx hb dL_law_2113 (by decide) ?_
                                                                                refine x_lald X hC.1 hM dL_law_2114 hp (fun v414 hp => ?_)
                                                                                refine lv_iload hx hb dL_law_2115 (lv_at hl 0 rfl) ?_
                                                                                refine lv_i2l (v := v410.toInt64) hx hb dL_law_2117 rfl ?_
                                                                                refine W.lcmp hx hb dL_law_2118 ?_
                                                                                refine lv_if_eq (tgt := 2124) hx hb dL_law_2119 (by decide) (fun hc => ?_) (fun hc => ?_)
                                                                                · have hp := oIf.t hp hc
                                                                                  exact hB2124 rec23 hrec23 _ _ _ _ _ _ _ _ _ _ _ _ hp hM hS hB (lv_sub hl [2, 3, 4, 5, 6] rfl)
                                                                                · have hp := oIf.f hp hc
                                                                                  exact hp.elim
                                                                            · have hp := oIf.f hp hc
                                                                              exact hp.elim
                                                                          · have hp := oIf.f hp hc34
                                                                            by_cases hc35 : (v2 &&& (63 : Int32)) = (35 : Int32)
                                                                            · have hp := oIf.t hp hc35
                                                                              refine lv_tableIn (off := 2087) (tgt := 2127) hx hb dL_law_40 (by rw [hc35]; decide) (by rw [hc35]; decide) (by rw [hc35]; rfl) (by decide) ?_
                                                                              refine lv_aload_n hx hb dL_law_2127 rfl (lv_at hl 1 rfl) ?_
                                                                              refine lv_aload_n hx hb dL_law_2128 rfl (lv_at hl 0 rfl) ?_
                                                                              refine lv_iload hx hb dL_law_2129 (lv_at hl 4 rfl) ?_
                                                                              refine lv_iconst (v := 1) hx hb dL_law_2131 (by decide) ?_
                                                                              refine lv_iadd hx hb dL_law_2132 ?_
                                                                              refine x_iald X hC.1 hM dL_law_2133 hp (fun v415 hp => ?_)
                                                                              refine lv_aload_n hx hb dL_law_2134 rfl (lv_at hl 3 rfl) ?_
                                                                              obtain ⟨c417, hc1, hp⟩ := hp
                                                                              refine x_callI (vx_runSX (As := [.ref x1, .int v415, .ref x3]) (rest := []) X (P_X0_inspect_ok (l := l) hl0 hp) (vx_cwSW 3 hts (lw_SW q2875 q2876 q147 q2877) rfl rfl rfl (by decide +kernel) ⟨Nat.le_of_ble_eq_true rfl, Nat.le_of_ble_eq_true rfl⟩) ⟨wPc.blind, w_pre hC hM hS _⟩ rfl rfl hl.1 rfl (lv_room (Nat.le_of_ble_eq_true rfl)) dL_law_2135 (w_room hB hc1)) hS hB hc1 (fun _ _ _ _ _ _ h => False.elim h) (fun v418 M416 H locs hp hM hS hB => ?_)
                                                                              refine lv_istore (lv' := [(5, .int v418), (0, .ref x0), (1, .ref x1), (2, .ref x2), (3, .ref x3), (4, .int x4)]) hx hb dL_law_2138 hl (by decide) rfl (fun ls hl => ?_)
                                                                              refine lv_aload_n hx hb dL_law_2140 rfl (lv_at hl 3 rfl) ?_
                                                                              refine lv_aload_n hx hb dL_law_2141 rfl (lv_at hl 1 rfl) ?_
                                                                              refine lv_iload hx hb dL_law_2142 (lv_at hl 5 rfl) ?_
                                                                              refine lv_iconst (v := 1) hx hb dL_law_2144 (by decide) ?_
                                                                              refine lv_iadd hx hb dL_law_2145 ?_
                                                                              refine x_iald X hC.1 hM dL_law_2146 hp (fun v419 hp => ?_)
                                                                              obtain ⟨hrec, hp⟩ := hp
                                                                              refine x_call0I (vx_runV (As := [.int v419]) (rest := []) X (P_X4_inspect_ok (l := l) hl0 hp) (cwV 1 hts (lw_V q3521 q3522 q3523 q178 q3524) rfl rfl rfl (by decide +kernel) ⟨Nat.le_of_ble_eq_true rfl, Nat.le_of_ble_eq_true rfl⟩) ⟨wPc.blind, w_recv hC.1 hM (ci := 3) (q := (RX4, TX4, 28)) rfl hrec, w_pre hC hM hS _⟩ rfl rfl hl.1 rfl (lv_room (Nat.le_of_ble_eq_true rfl)) dL_law_2147 (w_room0 hB)) hS (w_room0 hB) (fun _ _ _ _ _ _ h => False.elim h) (fun v422 M420 H locs hp hM hS => ?_)
                                                                              refine lv_istore (lv' := [(6, .int v422), (5, .int v418), (0, .ref x0), (1, .ref x1), (2, .ref x2), (3, .ref x3), (4, .int x4)]) hx hb dL_law_2150 hl (by decide) rfl (fun ls hl => ?_)
                                                                              refine lv_aload_n hx hb dL_law_2152 rfl (lv_at hl 4 rfl) ?_
                                                                              obtain ⟨hrec, hp⟩ := hp
                                                                              refine x_call0I (vx_runV (As := []) (rest := []) X (P_X4_thrown_ok (l := l) hl0 hp) (cwV 0 hts (lw_V q3227 q3228 q3229 q178 q3230) rfl rfl rfl (by decide +kernel) ⟨Nat.le_of_ble_eq_true rfl, Nat.le_of_ble_eq_true rfl⟩) ⟨wPc.blind, w_recv hC.1 hM (ci := 3) (q := (RX4, TX4, 28)) rfl hrec, w_pre hC hM hS _⟩ rfl rfl hl.1 rfl (lv_room (Nat.le_of_ble_eq_true rfl)) dL_law_2153 (w_room0 hB)) hS (w_room0 hB) (fun _ _ _ _ _ _ h => False.elim h) (fun v425 M423 H locs hp hM hS => ?_)
                                                                              refine lv_iload hx hb dL_law_2156 (lv_at hl 1 rfl) ?_
                                                                              refine lv_icmp_eq (tgt := 2163) hx hb dL_law_2158 (by decide) (fun hc => ?_) (fun hc => ?_)
                                                                              · have hp := oIf.t hp hc
                                                                                refine lv_iload hx hb dL_law_2163 (lv_at hl 1 rfl) ?_
                                                                                refine lv_if_ne (tgt := 2180) hx hb dL_law_2165 (by decide) (fun hc => ?_) (fun hc => ?_)
                                                                                · have hp := oIf.f hp hc
                                                                                  exact hB2180 rec23 hrec23 _ _ _ _ _ _ _ _ _ _ _ _ hp hM hS hB (lv_sub hl [2, 3, 4, 5, 6] rfl)
                                                                                · have hp := oIf.t hp hc
                                                                                  refine lv_aload_n hx hb dL_law_2168 rfl (lv_at hl 5 rfl) ?_
                                                                                  refine lv_iconst (v := 0) hx hb dL_law_2169 (by decide) ?_
                                                                                  refine x_lald X hC.1 hM dL_law_2170 hp (fun v426 hp => ?_)
                                                                                  refine lv_iload hx hb dL_law_2171 (lv_at hl 0 rfl) ?_
                                                                                  refine lv_i2l (v := v422.toInt64) hx hb dL_law_2173 rfl ?_
                                                                                  refine W.lcmp hx hb dL_law_2174 ?_
                                                                                  refine lv_if_eq (tgt := 2180) hx hb dL_law_2175 (by decide) (fun hc => ?_) (fun hc => ?_)
                                                                                  · have hp := oIf.t hp hc
                                                                                    exact hB2180 rec23 hrec23 _ _ _ _ _ _ _ _ _ _ _ _ hp hM hS hB (lv_sub hl [2, 3, 4, 5, 6] rfl)
                                                                                  · have hp := oIf.f hp hc
                                                                                    exact hp.elim
                                                                              · have hp := oIf.f hp hc
                                                                                exact hp.elim
                                                                            · have hp := oIf.f hp hc35
                                                                              by_cases hc36 : (v2 &&& (63 : Int32)) = (36 : Int32)
                                                                              · have hp := oIf.t hp hc36
                                                                                refine lv_tableIn (off := 2143) (tgt := 2183) hx hb dL_law_40 (by rw [hc36]; decide) (by rw [hc36]; decide) (by rw [hc36]; rfl) (by decide) ?_
                                                                                refine lv_aload_n hx hb dL_law_2183 rfl (lv_at hl 1 rfl) ?_
                                                                                refine lv_aload_n hx hb dL_law_2184 rfl (lv_at hl 0 rfl) ?_
                                                                                refine lv_iload hx hb dL_law_2185 (lv_at hl 4 rfl) ?_
                                                                                refine lv_iconst (v := 1) hx hb dL_law_2187 (by decide) ?_
                                                                                refine lv_iadd hx hb dL_law_2188 ?_
                                                                                refine x_iald X hC.1 hM dL_law_2189 hp (fun v427 hp => ?_)
                                                                                refine lv_aload_n hx hb dL_law_2190 rfl (lv_at hl 3 rfl) ?_
                                                                                obtain ⟨c429, hc1, hp⟩ := hp
                                                                                refine x_callI (vx_runSX (As := [.ref x1, .int v427, .ref x3]) (rest := []) X (P_X0_appeal_ok (l := l) hl0 hp) (vx_cwSW 3 hts (lw_SW q2928 q2929 q147 q2930) rfl rfl rfl (by decide +kernel) ⟨Nat.le_of_ble_eq_true rfl, Nat.le_of_ble_eq_true rfl⟩) ⟨wPc.blind, w_pre hC hM hS _⟩ rfl rfl hl.1 rfl (lv_room (Nat.le_of_ble_eq_true rfl)) dL_law_2191 (w_room hB hc1)) hS hB hc1 (fun _ _ _ _ _ _ h => False.elim h) (fun v430 M428 H locs hp hM hS hB => ?_)
                                                                                refine lv_istore (lv' := [(5, .int v430), (0, .ref x0), (1, .ref x1), (2, .ref x2), (3, .ref x3), (4, .int x4)]) hx hb dL_law_2194 hl (by decide) rfl (fun ls hl => ?_)
                                                                                refine lv_aload_n hx hb dL_law_2196 rfl (lv_at hl 3 rfl) ?_
                                                                                refine lv_aload_n hx hb dL_law_2197 rfl (lv_at hl 1 rfl) ?_
                                                                                refine lv_iload hx hb dL_law_2198 (lv_at hl 5 rfl) ?_
                                                                                refine lv_iconst (v := 1) hx hb dL_law_2200 (by decide) ?_
                                                                                refine lv_iadd hx hb dL_law_2201 ?_
                                                                                refine x_iald X hC.1 hM dL_law_2202 hp (fun v431 hp => ?_)
                                                                                obtain ⟨hrec, hp⟩ := hp
                                                                                refine x_call0Z (vx_runV (As := [.int v431]) (rest := []) X (P_X4_appeal_ok (l := l) hl0 hp) (cwV 1 hts (lw_V q3541 q3542 q3543 q178 q3544) rfl rfl rfl (by decide +kernel) ⟨Nat.le_of_ble_eq_true rfl, Nat.le_of_ble_eq_true rfl⟩) ⟨wPc.blind, w_recv hC.1 hM (ci := 3) (q := (RX4, TX4, 28)) rfl hrec, w_pre hC hM hS _⟩ rfl rfl hl.1 rfl (lv_room (Nat.le_of_ble_eq_true rfl)) dL_law_2203 (w_room0 hB)) hS (w_room0 hB) (fun _ _ _ _ _ _ h => False.elim h) (fun r434 M432 H locs hp hM hS => ?_)
                                                                                refine lv_istore (lv' := [(6, .int (wb r434)), (5, .int v430), (0, .ref x0), (1, .ref x1), (2, .ref x2), (3, .ref x3), (4, .int x4)]) hx hb dL_law_2206 hl (by decide) rfl (fun ls hl => ?_)
                                                                                refine lv_aload_n hx hb dL_law_2208 rfl (lv_at hl 4 rfl) ?_
                                                                                obtain ⟨hrec, hp⟩ := hp
                                                                                refine x_call0I (vx_runV (As := []) (rest := []) X (P_X4_thrown_ok (l := l) hl0 hp) (cwV 0 hts (lw_V q3227 q3228 q3229 q178 q3230) rfl rfl rfl (by decide +kernel) ⟨Nat.le_of_ble_eq_true rfl, Nat.le_of_ble_eq_true rfl⟩) ⟨wPc.blind, w_recv hC.1 hM (ci := 3) (q := (RX4, TX4, 28)) rfl hrec, w_pre hC hM hS _⟩ rfl rfl hl.1 rfl (lv_room (Nat.le_of_ble_eq_true rfl)) dL_law_2209 (w_room0 hB)) hS (w_room0 hB) (fun _ _ _ _ _ _ h => False.elim h) (fun v437 M435 H locs hp hM hS => ?_)
                                                                                refine lv_iload hx hb dL_law_2212 (lv_at hl 1 rfl) ?_
                                                                                refine lv_icmp_eq (tgt := 2219) hx hb dL_law_2214 (by decide) (fun hc => ?_) (fun hc => ?_)
                                                                                · have hp := oIf.t hp hc
                                                                                  refine lv_iload hx hb dL_law_2219 (lv_at hl 1 rfl) ?_
                                                                                  refine lv_if_ne (tgt := 2243) hx hb dL_law_2221 (by decide) (fun hc => ?_) (fun hc => ?_)
                                                                                  · have hp := oIf.f hp hc
                                                                                    exact hB2243 rec23 hrec23 _ _ _ _ _ _ _ _ _ _ _ _ hp hM hS hB (lv_sub hl [2, 3, 4, 5, 6] rfl)
                                                                                  · have hp := oIf.t hp hc
                                                                                    refine lv_aload_n hx hb dL_law_2224 rfl (lv_at hl 5 rfl) ?_
                                                                                    refine lv_iconst (v := 0) hx hb dL_law_2225 (by decide) ?_
                                                                                    refine x_lald X hC.1 hM dL_law_2226 hp (fun v438 hp => ?_)
                                                                                    refine lv_iload hx hb dL_law_2227 (lv_at hl 0 rfl) ?_
                                                                                    refine x_ifeqB (tgt := 2236) hx hb dL_law_2229 (by decide) (fun hc => ?_) (fun hc => ?_)
                                                                                    · have hp := oIf.bf hp hc
                                                                                      refine lv_lconst (v := 0) hx hb dL_law_2236 (by decide) ?_
                                                                                      exact hB2237 rec23 hrec23 _ _ _ _ _ _ _ _ _ _ _ _ _ _ hp hM hS hB (lv_sub hl [2, 3, 4, 5, 6] rfl)
                                                                                    · have hp := oIf.bt hp hc
                                                                                      refine lv_lconst (v := 1) hx hb dL_law_2232 (by decide) ?_
                                                                                      refine lv_goto (tgt := 2237) hx hb dL_law_2233 (by decide) ?_
                                                                                      exact hB2237 rec23 hrec23 _ _ _ _ _ _ _ _ _ _ _ _ _ _ hp hM hS hB (lv_sub hl [2, 3, 4, 5, 6] rfl)
                                                                                · have hp := oIf.f hp hc
                                                                                  exact hp.elim
                                                                              · have hp := oIf.f hp hc36
                                                                                by_cases hc37 : (v2 &&& (63 : Int32)) = (37 : Int32)
                                                                                · have hp := oIf.t hp hc37
                                                                                  refine lv_tableIn (off := 2206) (tgt := 2246) hx hb dL_law_40 (by rw [hc37]; decide) (by rw [hc37]; decide) (by rw [hc37]; rfl) (by decide) ?_
                                                                                  refine lv_aload_n hx hb dL_law_2246 rfl (lv_at hl 1 rfl) ?_
                                                                                  refine lv_aload_n hx hb dL_law_2247 rfl (lv_at hl 0 rfl) ?_
                                                                                  refine lv_iload hx hb dL_law_2248 (lv_at hl 4 rfl) ?_
                                                                                  refine lv_iconst (v := 1) hx hb dL_law_2250 (by decide) ?_
                                                                                  refine lv_iadd hx hb dL_law_2251 ?_
                                                                                  refine x_iald X hC.1 hM dL_law_2252 hp (fun v439 hp => ?_)
                                                                                  refine lv_aload_n hx hb dL_law_2253 rfl (lv_at hl 0 rfl) ?_
                                                                                  refine lv_iload hx hb dL_law_2254 (lv_at hl 4 rfl) ?_
                                                                                  refine lv_iconst (v := 2) hx hb dL_law_2256 (by decide) ?_
                                                                                  refine lv_iadd hx hb dL_law_2257 ?_
                                                                                  refine x_iald X hC.1 hM dL_law_2258 hp (fun v440 hp => ?_)
                                                                                  refine lv_aload_n hx hb dL_law_2259 rfl (lv_at hl 3 rfl) ?_
                                                                                  obtain ⟨c442, hc1, hp⟩ := hp
                                                                                  refine x_callI (vx_runSX (As := [.ref x1, .int v439, .int v440, .ref x3]) (rest := []) X (P_X0_setLimit_ok (l := l) hl0 hp) (vx_cwSW 4 hts (lw_SW q2963 q2964 q147 q2965) rfl rfl rfl (by decide +kernel) ⟨Nat.le_of_ble_eq_true rfl, Nat.le_of_ble_eq_true rfl⟩) ⟨wPc.blind, w_pre hC hM hS _⟩ rfl rfl hl.1 rfl (lv_room (Nat.le_of_ble_eq_true rfl)) dL_law_2260 (w_room hB hc1)) hS hB hc1 (fun _ _ _ _ _ _ h => False.elim h) (fun v443 M441 H locs hp hM hS hB => ?_)
                                                                                  refine lv_istore (lv' := [(5, .int v443), (0, .ref x0), (1, .ref x1), (2, .ref x2), (3, .ref x3), (4, .int x4)]) hx hb dL_law_2263 hl (by decide) rfl (fun ls hl => ?_)
                                                                                  refine lv_aload_n hx hb dL_law_2265 rfl (lv_at hl 3 rfl) ?_
                                                                                  refine lv_aload_n hx hb dL_law_2266 rfl (lv_at hl 1 rfl) ?_
                                                                                  refine lv_iload hx hb dL_law_2267 (lv_at hl 5 rfl) ?_
                                                                                  refine lv_iconst (v := 1) hx hb dL_law_2269 (by decide) ?_
                                                                                  refine lv_iadd hx hb dL_law_2270 ?_
                                                                                  refine x_iald X hC.1 hM dL_law_2271 hp (fun v444 hp => ?_)
                                                                                  refine lv_aload_n hx hb dL_law_2272 rfl (lv_at hl 1 rfl) ?_
                                                                                  refine lv_iload hx hb dL_law_2273 (lv_at hl 5 rfl) ?_
                                                                                  refine lv_iconst (v := 2) hx hb dL_law_2275 (by decide) ?_
                                                                                  refine lv_iadd hx hb dL_law_2276 ?_
                                                                                  refine x_iald X hC.1 hM dL_law_2277 hp (fun v445 hp => ?_)
                                                                                  obtain ⟨hrec, hp⟩ := hp
                                                                                  refine x_call0I (vx_runV (As := [.int v444, .int v445]) (rest := []) X (P_X4_setLimit_ok (l := l) hl0 hp) (cwV 2 hts (lw_V q3579 q3580 q3581 q178 q3582) rfl rfl rfl (by decide +kernel) ⟨Nat.le_of_ble_eq_true rfl, Nat.le_of_ble_eq_true rfl⟩) ⟨wPc.blind, w_recv hC.1 hM (ci := 3) (q := (RX4, TX4, 28)) rfl hrec, w_pre hC hM hS _⟩ rfl rfl hl.1 rfl (lv_room (Nat.le_of_ble_eq_true rfl)) dL_law_2278 (w_room0 hB)) hS (w_room0 hB) (fun _ _ _ _ _ _ h => False.elim h) (fun v448 M446 H locs hp hM hS => ?_)
                                                                                  refine lv_istore (lv' := [(6, .int v448), (5, .int v443), (0, .ref x0), (1, .ref x1), (2, .ref x2), (3, .ref x3), (4, .int x4)]) hx hb dL_law_2281 hl (by decide) rfl (fun ls hl => ?_)
                                                                                  refine lv_aload_n hx hb dL_law_2283 rfl (lv_at hl 4 rfl) ?_
                                                                                  obtain ⟨hrec, hp⟩ := hp
                                                                                  refine x_call0I (vx_runV (As := []) (rest := []) X (P_X4_thrown_ok (l := l) hl0 hp) (cwV 0 hts (lw_V q3227 q3228 q3229 q178 q3230) rfl rfl rfl (by decide +kernel) ⟨Nat.le_of_ble_eq_true rfl, Nat.le_of_ble_eq_true rfl⟩) ⟨wPc.blind, w_recv hC.1 hM (ci := 3) (q := (RX4, TX4, 28)) rfl hrec, w_pre hC hM hS _⟩ rfl rfl hl.1 rfl (lv_room (Nat.le_of_ble_eq_true rfl)) dL_law_2284 (w_room0 hB)) hS (w_room0 hB) (fun _ _ _ _ _ _ h => False.elim h) (fun v451 M449 H locs hp hM hS => ?_)
                                                                                  refine lv_iload hx hb dL_law_2287 (lv_at hl 1 rfl) ?_
                                                                                  refine lv_icmp_eq (tgt := 2294) hx hb dL_law_2289 (by decide) (fun hc => ?_) (fun hc => ?_)
                                                                                  · have hp := oIf.t hp hc
                                                                                    refine lv_iload hx hb dL_law_2294 (lv_at hl 1 rfl) ?_
                                                                                    refine lv_if_ne (tgt := 2311) hx hb dL_law_2296 (by decide) (fun hc => ?_) (fun hc => ?_)
                                                                                    · have hp := oIf.f hp hc
                                                                                      exact hB2311 rec23 hrec23 _ _ _ _ _ _ _ _ _ _ _ _ hp hM hS hB (lv_sub hl [2, 3, 4, 5, 6] rfl)
                                                                                    · have hp := oIf.t hp hc
                                                                                      refine lv_aload_n hx hb dL_law_2299 rfl (lv_at hl 5 rfl) ?_
                                                                                      refine lv_iconst (v := 0) hx hb dL_law_2300 (by decide) ?_
                                                                                      refine x_lald X hC.1 hM dL_law_2301 hp (fun v452 hp => ?_)
                                                                                      refine lv_iload hx hb dL_law_2302 (lv_at hl 0 rfl) ?_
                                                                                      refine lv_i2l (v := v448.toInt64) hx hb dL_law_2304 rfl ?_
                                                                                      refine W.lcmp hx hb dL_law_2305 ?_
                                                                                      refine lv_if_eq (tgt := 2311) hx hb dL_law_2306 (by decide) (fun hc => ?_) (fun hc => ?_)
                                                                                      · have hp := oIf.t hp hc
                                                                                        exact hB2311 rec23 hrec23 _ _ _ _ _ _ _ _ _ _ _ _ hp hM hS hB (lv_sub hl [2, 3, 4, 5, 6] rfl)
                                                                                      · have hp := oIf.f hp hc
                                                                                        exact hp.elim
                                                                                  · have hp := oIf.f hp hc
                                                                                    exact hp.elim
                                                                                · have hp := oIf.f hp hc37
                                                                                  by_cases hc38 : (v2 &&& (63 : Int32)) = (38 : Int32)
                                                                                  · have hp := oIf.t hp hc38
                                                                                    refine lv_tableIn (off := 2274) (tgt := 2314) hx hb dL_law_40 (by rw [hc38]; decide) (by rw [hc38]; decide) (by rw [hc38]; rfl) (by decide) ?_
                                                                                    refine lv_aload_n hx hb dL_law_2314 rfl (lv_at hl 1 rfl) ?_
                                                                                    refine lv_aload_n hx hb dL_law_2315 rfl (lv_at hl 0 rfl) ?_
                                                                                    refine lv_iload hx hb dL_law_2316 (lv_at hl 4 rfl) ?_
                                                                                    refine lv_iconst (v := 1) hx hb dL_law_2318 (by decide) ?_
                                                                                    refine lv_iadd hx hb dL_law_2319 ?_
                                                                                    refine x_iald X hC.1 hM dL_law_2320 hp (fun v453 hp => ?_)
                                                                                    refine lv_aload_n hx hb dL_law_2321 rfl (lv_at hl 0 rfl) ?_
                                                                                    refine lv_iload hx hb dL_law_2322 (lv_at hl 4 rfl) ?_
                                                                                    refine lv_iconst (v := 2) hx hb dL_law_2324 (by decide) ?_
                                                                                    refine lv_iadd hx hb dL_law_2325 ?_
                                                                                    refine x_iald X hC.1 hM dL_law_2326 hp (fun v454 hp => ?_)
                                                                                    refine lv_if_eq (tgt := 2334) hx hb dL_law_2327 (by decide) (fun hc => ?_) (fun hc => ?_)
                                                                                    · have hp := oIf.t hp hc
                                                                                      refine lv_iconst (v := 0) hx hb dL_law_2334 (by decide) ?_
                                                                                      exact hB2335 rec23 hrec23 _ _ _ _ _ _ _ _ _ _ _ _ _ _ _ hp hM hS hB (lv_sub hl [0, 1, 2, 3, 4] rfl)
                                                                                    · have hp := oIf.f hp hc
                                                                                      refine lv_iconst (v := 1) hx hb dL_law_2330 (by decide) ?_
                                                                                      refine lv_goto (tgt := 2335) hx hb dL_law_2331 (by decide) ?_
                                                                                      exact hB2335 rec23 hrec23 _ _ _ _ _ _ _ _ _ _ _ _ _ _ _ hp hM hS hB (lv_sub hl [0, 1, 2, 3, 4] rfl)
                                                                                  · have hp := oIf.f hp hc38
                                                                                    by_cases hc39 : (v2 &&& (63 : Int32)) = (39 : Int32)
                                                                                    · have hp := oIf.t hp hc39
                                                                                      refine lv_tableIn (off := 2365) (tgt := 2405) hx hb dL_law_40 (by rw [hc39]; decide) (by rw [hc39]; decide) (by rw [hc39]; rfl) (by decide) ?_
                                                                                      refine lv_aload_n hx hb dL_law_2405 rfl (lv_at hl 1 rfl) ?_
                                                                                      refine lv_aload_n hx hb dL_law_2406 rfl (lv_at hl 3 rfl) ?_
                                                                                      obtain ⟨c456, hc1, hp⟩ := hp
                                                                                      refine x_callI (vx_runSX (As := [.ref x1, .ref x3]) (rest := []) X (P_X0_undo_ok (l := l) hl0 hp) (vx_cwSW 2 hts (lw_SW q2992 q2993 q147 q2994) rfl rfl rfl (by decide +kernel) ⟨Nat.le_of_ble_eq_true rfl, Nat.le_of_ble_eq_true rfl⟩) ⟨wPc.blind, w_pre hC hM hS _⟩ rfl rfl hl.1 rfl (lv_room (Nat.le_of_ble_eq_true rfl)) dL_law_2407 (w_room hB hc1)) hS hB hc1 (fun _ _ _ _ _ _ h => False.elim h) (fun v457 M455 H locs hp hM hS hB => ?_)
                                                                                      refine lv_istore (lv' := [(5, .int v457), (0, .ref x0), (1, .ref x1), (2, .ref x2), (3, .ref x3), (4, .int x4)]) hx hb dL_law_2410 hl (by decide) rfl (fun ls hl => ?_)
                                                                                      refine lv_aload_n hx hb dL_law_2412 rfl (lv_at hl 3 rfl) ?_
                                                                                      obtain ⟨hrec, hp⟩ := hp
                                                                                      refine x_call0I (vx_runV (As := []) (rest := []) X (P_X4_undo_ok (l := l) hl0 hp) (cwV 0 hts (lw_V q3231 q3232 q3233 q178 q3234) rfl rfl rfl (by decide +kernel) ⟨Nat.le_of_ble_eq_true rfl, Nat.le_of_ble_eq_true rfl⟩) ⟨wPc.blind, w_recv hC.1 hM (ci := 3) (q := (RX4, TX4, 28)) rfl hrec, w_pre hC hM hS _⟩ rfl rfl hl.1 rfl (lv_room (Nat.le_of_ble_eq_true rfl)) dL_law_2413 (w_room0 hB)) hS (w_room0 hB) (fun _ _ _ _ _ _ h => False.elim h) (fun v460 M458 H locs hp hM hS => ?_)
                                                                                      refine lv_istore (lv' := [(6, .int v460), (5, .int v457), (0, .ref x0), (1, .ref x1), (2, .ref x2), (3, .ref x3), (4, .int x4)]) hx hb dL_law_2416 hl (by decide) rfl (fun ls hl => ?_)
                                                                                      refine lv_aload_n hx hb dL_law_2418 rfl (lv_at hl 4 rfl) ?_
                                                                                      obtain ⟨hrec, hp⟩ := hp
                                                                                      refine x_call0I (vx_runV (As := []) (rest := []) X (P_X4_thrown_ok (l := l) hl0 hp) (cwV 0 hts (lw_V q3227 q3228 q3229 q178 q3230) rfl rfl rfl (by decide +kernel) ⟨Nat.le_of_ble_eq_true rfl, Nat.le_of_ble_eq_true rfl⟩) ⟨wPc.blind, w_recv hC.1 hM (ci := 3) (q := (RX4, TX4, 28)) rfl hrec, w_pre hC hM hS _⟩ rfl rfl hl.1 rfl (lv_room (Nat.le_of_ble_eq_true rfl)) dL_law_2419 (w_room0 hB)) hS (w_room0 hB) (fun _ _ _ _ _ _ h => False.elim h) (fun v463 M461 H locs hp hM hS => ?_)
                                                                                      refine lv_iload hx hb dL_law_2422 (lv_at hl 1 rfl) ?_
                                                                                      refine lv_icmp_eq (tgt := 2429) hx hb dL_law_2424 (by decide) (fun hc => ?_) (fun hc => ?_)
                                                                                      · have hp := oIf.t hp hc
                                                                                        refine lv_iload hx hb dL_law_2429 (lv_at hl 1 rfl) ?_
                                                                                        refine lv_if_ne (tgt := 2446) hx hb dL_law_2431 (by decide) (fun hc => ?_) (fun hc => ?_)
                                                                                        · have hp := oIf.f hp hc
                                                                                          exact hB2446 rec23 hrec23 _ _ _ _ _ _ _ _ _ _ _ _ hp hM hS hB (lv_sub hl [2, 3, 4, 5, 6] rfl)
                                                                                        · have hp := oIf.t hp hc
                                                                                          refine lv_aload_n hx hb dL_law_2434 rfl (lv_at hl 5 rfl) ?_
                                                                                          refine lv_iconst (v := 0) hx hb dL_law_2435 (by decide) ?_
                                                                                          refine x_lald X hC.1 hM dL_law_2436 hp (fun v464 hp => ?_)
                                                                                          refine lv_iload hx hb dL_law_2437 (lv_at hl 0 rfl) ?_
                                                                                          refine lv_i2l (v := v460.toInt64) hx hb dL_law_2439 rfl ?_
                                                                                          refine W.lcmp hx hb dL_law_2440 ?_
                                                                                          refine lv_if_eq (tgt := 2446) hx hb dL_law_2441 (by decide) (fun hc => ?_) (fun hc => ?_)
                                                                                          · have hp := oIf.t hp hc
                                                                                            exact hB2446 rec23 hrec23 _ _ _ _ _ _ _ _ _ _ _ _ hp hM hS hB (lv_sub hl [2, 3, 4, 5, 6] rfl)
                                                                                          · have hp := oIf.f hp hc
                                                                                            exact hp.elim
                                                                                      · have hp := oIf.f hp hc
                                                                                        exact hp.elim
                                                                                    · have hp := oIf.f hp hc39
                                                                                      by_cases hc40 : (v2 &&& (63 : Int32)) = (40 : Int32)
                                                                                      · have hp := oIf.t hp hc40
                                                                                        refine lv_tableIn (off := 2409) (tgt := 2449) hx hb dL_law_40 (by rw [hc40]; decide) (by rw [hc40]; decide) (by rw [hc40]; rfl) (by decide) ?_
                                                                                        refine lv_aload_n hx hb dL_law_2449 rfl (lv_at hl 1 rfl) ?_
                                                                                        refine lv_aload_n hx hb dL_law_2450 rfl (lv_at hl 0 rfl) ?_
                                                                                        refine lv_iload hx hb dL_law_2451 (lv_at hl 4 rfl) ?_
                                                                                        refine lv_iconst (v := 1) hx hb dL_law_2453 (by decide) ?_
                                                                                        refine lv_iadd hx hb dL_law_2454 ?_
                                                                                        refine x_iald X hC.1 hM dL_law_2455 hp (fun v465 hp => ?_)
                                                                                        refine lv_aload_n hx hb dL_law_2456 rfl (lv_at hl 0 rfl) ?_
                                                                                        refine lv_iload hx hb dL_law_2457 (lv_at hl 4 rfl) ?_
                                                                                        refine lv_iconst (v := 2) hx hb dL_law_2459 (by decide) ?_
                                                                                        refine lv_iadd hx hb dL_law_2460 ?_
                                                                                        refine x_iald X hC.1 hM dL_law_2461 hp (fun v466 hp => ?_)
                                                                                        refine lv_aload_n hx hb dL_law_2462 rfl (lv_at hl 3 rfl) ?_
                                                                                        obtain ⟨c468, hc1, hp⟩ := hp
                                                                                        refine x_callI (vx_runSX (As := [.ref x1, .int v465, .int v466, .ref x3]) (rest := []) X (P_X0_offerIn_ok (l := l) hl0 hp) (vx_cwSW 4 hts (lw_SW q3014 q3015 q147 q3016) rfl rfl rfl (by decide +kernel) ⟨Nat.le_of_ble_eq_true rfl, Nat.le_of_ble_eq_true rfl⟩) ⟨wPc.blind, w_pre hC hM hS _⟩ rfl rfl hl.1 rfl (lv_room (Nat.le_of_ble_eq_true rfl)) dL_law_2463 (w_room hB hc1)) hS hB hc1 (fun _ _ _ _ _ _ h => False.elim h) (fun v469 M467 H locs hp hM hS hB => ?_)
                                                                                        refine lv_istore (lv' := [(5, .int v469), (0, .ref x0), (1, .ref x1), (2, .ref x2), (3, .ref x3), (4, .int x4)]) hx hb dL_law_2466 hl (by decide) rfl (fun ls hl => ?_)
                                                                                        refine lv_aload_n hx hb dL_law_2468 rfl (lv_at hl 3 rfl) ?_
                                                                                        refine lv_aload_n hx hb dL_law_2469 rfl (lv_at hl 1 rfl) ?_
                                                                                        refine lv_iload hx hb dL_law_2470 (lv_at hl 5 rfl) ?_
                                                                                        refine lv_iconst (v := 1) hx hb dL_law_2472 (by decide) ?_
                                                                                        refine lv_iadd hx hb dL_law_2473 ?_
                                                                                        refine x_iald X hC.1 hM dL_law_2474 hp (fun v470 hp => ?_)
                                                                                        refine lv_aload_n hx hb dL_law_2475 rfl (lv_at hl 1 rfl) ?_
                                                                                        refine lv_iload hx hb dL_law_2476 (lv_at hl 5 rfl) ?_
                                                                                        refine lv_iconst (v := 2) hx hb dL_law_2478 (by decide) ?_
                                                                                        refine lv_iadd hx hb dL_law_2479 ?_
                                                                                        refine x_iald X hC.1 hM dL_law_2480 hp (fun v471 hp => ?_)
                                                                                        obtain ⟨hrec, hp⟩ := hp
                                                                                        refine x_call0I (vx_runV (As := [.int v470, .int v471]) (rest := []) X (P_X4_offerIn_ok (l := l) hl0 hp) (cwV 2 hts (lw_V q3608 q3609 q3610 q178 q3611) rfl rfl rfl (by decide +kernel) ⟨Nat.le_of_ble_eq_true rfl, Nat.le_of_ble_eq_true rfl⟩) ⟨wPc.blind, w_recv hC.1 hM (ci := 3) (q := (RX4, TX4, 28)) rfl hrec, w_pre hC hM hS _⟩ rfl rfl hl.1 rfl (lv_room (Nat.le_of_ble_eq_true rfl)) dL_law_2481 (w_room0 hB)) hS (w_room0 hB) (fun _ _ _ _ _ _ h => False.elim h) (fun v474 M472 H locs hp hM hS => ?_)
                                                                                        refine lv_istore (lv' := [(6, .int v474), (5, .int v469), (0, .ref x0), (1, .ref x1), (2, .ref x2), (3, .ref x3), (4, .int x4)]) hx hb dL_law_2484 hl (by decide) rfl (fun ls hl => ?_)
                                                                                        refine lv_aload_n hx hb dL_law_2486 rfl (lv_at hl 4 rfl) ?_
                                                                                        obtain ⟨hrec, hp⟩ := hp
                                                                                        refine x_call0I (vx_runV (As := []) (rest := []) X (P_X4_thrown_ok (l := l) hl0 hp) (cwV 0 hts (lw_V q3227 q3228 q3229 q178 q3230) rfl rfl rfl (by decide +kernel) ⟨Nat.le_of_ble_eq_true rfl, Nat.le_of_ble_eq_true rfl⟩) ⟨wPc.blind, w_recv hC.1 hM (ci := 3) (q := (RX4, TX4, 28)) rfl hrec, w_pre hC hM hS _⟩ rfl rfl hl.1 rfl (lv_room (Nat.le_of_ble_eq_true rfl)) dL_law_2487 (w_room0 hB)) hS (w_room0 hB) (fun _ _ _ _ _ _ h => False.elim h) (fun v477 M475 H locs hp hM hS => ?_)
                                                                                        refine lv_iload hx hb dL_law_2490 (lv_at hl 1 rfl) ?_
                                                                                        refine lv_icmp_eq (tgt := 2497) hx hb dL_law_2492 (by decide) (fun hc => ?_) (fun hc => ?_)
                                                                                        · have hp := oIf.t hp hc
                                                                                          refine lv_iload hx hb dL_law_2497 (lv_at hl 1 rfl) ?_
                                                                                          refine lv_if_ne (tgt := 2514) hx hb dL_law_2499 (by decide) (fun hc => ?_) (fun hc => ?_)
                                                                                          · have hp := oIf.f hp hc
                                                                                            exact hB2514 rec23 hrec23 _ _ _ _ _ _ _ _ _ _ _ _ hp hM hS hB (lv_sub hl [2, 3, 4, 5, 6] rfl)
                                                                                          · have hp := oIf.t hp hc
                                                                                            refine lv_aload_n hx hb dL_law_2502 rfl (lv_at hl 5 rfl) ?_
                                                                                            refine lv_iconst (v := 0) hx hb dL_law_2503 (by decide) ?_
                                                                                            refine x_lald X hC.1 hM dL_law_2504 hp (fun v478 hp => ?_)
                                                                                            refine lv_iload hx hb dL_law_2505 (lv_at hl 0 rfl) ?_
                                                                                            refine lv_i2l (v := v474.toInt64) hx hb dL_law_2507 rfl ?_
                                                                                            refine W.lcmp hx hb dL_law_2508 ?_
                                                                                            refine lv_if_eq (tgt := 2514) hx hb dL_law_2509 (by decide) (fun hc => ?_) (fun hc => ?_)
                                                                                            · have hp := oIf.t hp hc
                                                                                              exact hB2514 rec23 hrec23 _ _ _ _ _ _ _ _ _ _ _ _ hp hM hS hB (lv_sub hl [2, 3, 4, 5, 6] rfl)
                                                                                            · have hp := oIf.f hp hc
                                                                                              exact hp.elim
                                                                                        · have hp := oIf.f hp hc
                                                                                          exact hp.elim
                                                                                      · have hp := oIf.f hp hc40
                                                                                        by_cases hc41 : (v2 &&& (63 : Int32)) = (41 : Int32)
                                                                                        · have hp := oIf.t hp hc41
                                                                                          refine lv_tableIn (off := 2477) (tgt := 2517) hx hb dL_law_40 (by rw [hc41]; decide) (by rw [hc41]; decide) (by rw [hc41]; rfl) (by decide) ?_
                                                                                          refine lv_aload_n hx hb dL_law_2517 rfl (lv_at hl 1 rfl) ?_
                                                                                          refine lv_aload_n hx hb dL_law_2518 rfl (lv_at hl 0 rfl) ?_
                                                                                          refine lv_iload hx hb dL_law_2519 (lv_at hl 4 rfl) ?_
                                                                                          refine lv_iconst (v := 1) hx hb dL_law_2521 (by decide) ?_
                                                                                          refine lv_iadd hx hb dL_law_2522 ?_
                                                                                          refine x_iald X hC.1 hM dL_law_2523 hp (fun v479 hp => ?_)
                                                                                          refine lv_aload_n hx hb dL_law_2524 rfl (lv_at hl 0 rfl) ?_
                                                                                          refine lv_iload hx hb dL_law_2525 (lv_at hl 4 rfl) ?_
                                                                                          refine lv_iconst (v := 2) hx hb dL_law_2527 (by decide) ?_
                                                                                          refine lv_iadd hx hb dL_law_2528 ?_
                                                                                          refine x_iald X hC.1 hM dL_law_2529 hp (fun v480 hp => ?_)
                                                                                          refine lv_aload_n hx hb dL_law_2530 rfl (lv_at hl 3 rfl) ?_
                                                                                          obtain ⟨c482, hc1, hp⟩ := hp
                                                                                          refine x_callI (vx_runSX (As := [.ref x1, .int v479, .int v480, .ref x3]) (rest := []) X (P_X0_finesIn_ok (l := l) hl0 hp) (vx_cwSW 4 hts (lw_SW q3022 q3023 q147 q3024) rfl rfl rfl (by decide +kernel) ⟨Nat.le_of_ble_eq_true rfl, Nat.le_of_ble_eq_true rfl⟩) ⟨wPc.blind, w_pre hC hM hS _⟩ rfl rfl hl.1 rfl (lv_room (Nat.le_of_ble_eq_true rfl)) dL_law_2531 (w_room hB hc1)) hS hB hc1 (fun _ _ _ _ _ _ h => False.elim h) (fun v483 M481 H locs hp hM hS hB => ?_)
                                                                                          refine lv_istore (lv' := [(5, .int v483), (0, .ref x0), (1, .ref x1), (2, .ref x2), (3, .ref x3), (4, .int x4)]) hx hb dL_law_2534 hl (by decide) rfl (fun ls hl => ?_)
                                                                                          refine lv_aload_n hx hb dL_law_2536 rfl (lv_at hl 3 rfl) ?_
                                                                                          refine lv_aload_n hx hb dL_law_2537 rfl (lv_at hl 1 rfl) ?_
                                                                                          refine lv_iload hx hb dL_law_2538 (lv_at hl 5 rfl) ?_
                                                                                          refine lv_iconst (v := 1) hx hb dL_law_2540 (by decide) ?_
                                                                                          refine lv_iadd hx hb dL_law_2541 ?_
                                                                                          refine x_iald X hC.1 hM dL_law_2542 hp (fun v484 hp => ?_)
                                                                                          refine lv_aload_n hx hb dL_law_2543 rfl (lv_at hl 1 rfl) ?_
                                                                                          refine lv_iload hx hb dL_law_2544 (lv_at hl 5 rfl) ?_
                                                                                          refine lv_iconst (v := 2) hx hb dL_law_2546 (by decide) ?_
                                                                                          refine lv_iadd hx hb dL_law_2547 ?_
                                                                                          refine x_iald X hC.1 hM dL_law_2548 hp (fun v485 hp => ?_)
                                                                                          obtain ⟨hrec, hp⟩ := hp
                                                                                          refine x_call0I (vx_runV (As := [.int v484, .int v485]) (rest := []) X (P_X4_finesIn_ok (l := l) hl0 hp) (cwV 2 hts (lw_V q3621 q3622 q3623 q178 q3624) rfl rfl rfl (by decide +kernel) ⟨Nat.le_of_ble_eq_true rfl, Nat.le_of_ble_eq_true rfl⟩) ⟨wPc.blind, w_recv hC.1 hM (ci := 3) (q := (RX4, TX4, 28)) rfl hrec, w_pre hC hM hS _⟩ rfl rfl hl.1 rfl (lv_room (Nat.le_of_ble_eq_true rfl)) dL_law_2549 (w_room0 hB)) hS (w_room0 hB) (fun _ _ _ _ _ _ h => False.elim h) (fun v488 M486 H locs hp hM hS => ?_)
                                                                                          refine lv_istore (lv' := [(6, .int v488), (5, .int v483), (0, .ref x0), (1, .ref x1), (2, .ref x2), (3, .ref x3), (4, .int x4)]) hx hb dL_law_2552 hl (by decide) rfl (fun ls hl => ?_)
                                                                                          refine lv_aload_n hx hb dL_law_2554 rfl (lv_at hl 4 rfl) ?_
                                                                                          obtain ⟨hrec, hp⟩ := hp
                                                                                          refine x_call0I (vx_runV (As := []) (rest := []) X (P_X4_thrown_ok (l := l) hl0 hp) (cwV 0 hts (lw_V q3227 q3228 q3229 q178 q3230) rfl rfl rfl (by decide +kernel) ⟨Nat.le_of_ble_eq_true rfl, Nat.le_of_ble_eq_true rfl⟩) ⟨wPc.blind, w_recv hC.1 hM (ci := 3) (q := (RX4, TX4, 28)) rfl hrec, w_pre hC hM hS _⟩ rfl rfl hl.1 rfl (lv_room (Nat.le_of_ble_eq_true rfl)) dL_law_2555 (w_room0 hB)) hS (w_room0 hB) (fun _ _ _ _ _ _ h => False.elim h) (fun v491 M489 H locs hp hM hS => ?_)
                                                                                          refine lv_iload hx hb dL_law_2558 (lv_at hl 1 rfl) ?_
                                                                                          refine lv_icmp_eq (tgt := 2565) hx hb dL_law_2560 (by decide) (fun hc => ?_) (fun hc => ?_)
                                                                                          · have hp := oIf.t hp hc
                                                                                            refine lv_iload hx hb dL_law_2565 (lv_at hl 1 rfl) ?_
                                                                                            refine lv_if_ne (tgt := 2582) hx hb dL_law_2567 (by decide) (fun hc => ?_) (fun hc => ?_)
                                                                                            · have hp := oIf.f hp hc
                                                                                              exact hB2582 rec23 hrec23 _ _ _ _ _ _ _ _ _ _ _ _ hp hM hS hB (lv_sub hl [2, 3, 4, 5, 6] rfl)
                                                                                            · have hp := oIf.t hp hc
                                                                                              refine lv_aload_n hx hb dL_law_2570 rfl (lv_at hl 5 rfl) ?_
                                                                                              refine lv_iconst (v := 0) hx hb dL_law_2571 (by decide) ?_
                                                                                              refine x_lald X hC.1 hM dL_law_2572 hp (fun v492 hp => ?_)
                                                                                              refine lv_iload hx hb dL_law_2573 (lv_at hl 0 rfl) ?_
                                                                                              refine lv_i2l (v := v488.toInt64) hx hb dL_law_2575 rfl ?_
                                                                                              refine W.lcmp hx hb dL_law_2576 ?_
                                                                                              refine lv_if_eq (tgt := 2582) hx hb dL_law_2577 (by decide) (fun hc => ?_) (fun hc => ?_)
                                                                                              · have hp := oIf.t hp hc
                                                                                                exact hB2582 rec23 hrec23 _ _ _ _ _ _ _ _ _ _ _ _ hp hM hS hB (lv_sub hl [2, 3, 4, 5, 6] rfl)
                                                                                              · have hp := oIf.f hp hc
                                                                                                exact hp.elim
                                                                                          · have hp := oIf.f hp hc
                                                                                            exact hp.elim
                                                                                        · have hp := oIf.f hp hc41
                                                                                          by_cases hc42 : (v2 &&& (63 : Int32)) = (42 : Int32)
                                                                                          · have hp := oIf.t hp hc42
                                                                                            refine lv_tableIn (off := 2545) (tgt := 2585) hx hb dL_law_40 (by rw [hc42]; decide) (by rw [hc42]; decide) (by rw [hc42]; rfl) (by decide) ?_
                                                                                            refine lv_aload_n hx hb dL_law_2585 rfl (lv_at hl 1 rfl) ?_
                                                                                            refine lv_aload_n hx hb dL_law_2586 rfl (lv_at hl 0 rfl) ?_
                                                                                            refine lv_iload hx hb dL_law_2587 (lv_at hl 4 rfl) ?_
                                                                                            refine lv_iconst (v := 1) hx hb dL_law_2589 (by decide) ?_
                                                                                            refine lv_iadd hx hb dL_law_2590 ?_
                                                                                            refine x_iald X hC.1 hM dL_law_2591 hp (fun v493 hp => ?_)
                                                                                            refine lv_aload_n hx hb dL_law_2592 rfl (lv_at hl 0 rfl) ?_
                                                                                            refine lv_iload hx hb dL_law_2593 (lv_at hl 4 rfl) ?_
                                                                                            refine lv_iconst (v := 2) hx hb dL_law_2595 (by decide) ?_
                                                                                            refine lv_iadd hx hb dL_law_2596 ?_
                                                                                            refine x_iald X hC.1 hM dL_law_2597 hp (fun v494 hp => ?_)
                                                                                            refine lv_aload_n hx hb dL_law_2598 rfl (lv_at hl 3 rfl) ?_
                                                                                            obtain ⟨c496, hc1, hp⟩ := hp
                                                                                            refine x_callI (vx_runSX (As := [.ref x1, .int v493, .int v494, .ref x3]) (rest := []) X (P_X0_bestInspection_ok (l := l) hl0 hp) (vx_cwSW 4 hts (lw_SW q3033 q3034 q147 q3035) rfl rfl rfl (by decide +kernel) ⟨Nat.le_of_ble_eq_true rfl, Nat.le_of_ble_eq_true rfl⟩) ⟨wPc.blind, w_pre hC hM hS _⟩ rfl rfl hl.1 rfl (lv_room (Nat.le_of_ble_eq_true rfl)) dL_law_2599 (w_room hB hc1)) hS hB hc1 (fun _ _ _ _ _ _ h => False.elim h) (fun v497 M495 H locs hp hM hS hB => ?_)
                                                                                            refine lv_istore (lv' := [(5, .int v497), (0, .ref x0), (1, .ref x1), (2, .ref x2), (3, .ref x3), (4, .int x4)]) hx hb dL_law_2602 hl (by decide) rfl (fun ls hl => ?_)
                                                                                            refine lv_aload_n hx hb dL_law_2604 rfl (lv_at hl 3 rfl) ?_
                                                                                            refine lv_aload_n hx hb dL_law_2605 rfl (lv_at hl 1 rfl) ?_
                                                                                            refine lv_iload hx hb dL_law_2606 (lv_at hl 5 rfl) ?_
                                                                                            refine lv_iconst (v := 1) hx hb dL_law_2608 (by decide) ?_
                                                                                            refine lv_iadd hx hb dL_law_2609 ?_
                                                                                            refine x_iald X hC.1 hM dL_law_2610 hp (fun v498 hp => ?_)
                                                                                            refine lv_aload_n hx hb dL_law_2611 rfl (lv_at hl 1 rfl) ?_
                                                                                            refine lv_iload hx hb dL_law_2612 (lv_at hl 5 rfl) ?_
                                                                                            refine lv_iconst (v := 2) hx hb dL_law_2614 (by decide) ?_
                                                                                            refine lv_iadd hx hb dL_law_2615 ?_
                                                                                            refine x_iald X hC.1 hM dL_law_2616 hp (fun v499 hp => ?_)
                                                                                            obtain ⟨hrec, hp⟩ := hp
                                                                                            refine x_call0I (vx_runV (As := [.int v498, .int v499]) (rest := []) X (P_X4_bestInspection_ok (l := l) hl0 hp) (cwV 2 hts (lw_V q3629 q3630 q3631 q178 q3632) rfl rfl rfl (by decide +kernel) ⟨Nat.le_of_ble_eq_true rfl, Nat.le_of_ble_eq_true rfl⟩) ⟨wPc.blind, w_recv hC.1 hM (ci := 3) (q := (RX4, TX4, 28)) rfl hrec, w_pre hC hM hS _⟩ rfl rfl hl.1 rfl (lv_room (Nat.le_of_ble_eq_true rfl)) dL_law_2617 (w_room0 hB)) hS (w_room0 hB) (fun _ _ _ _ _ _ h => False.elim h) (fun v502 M500 H locs hp hM hS => ?_)
                                                                                            refine lv_istore (lv' := [(6, .int v502), (5, .int v497), (0, .ref x0), (1, .ref x1), (2, .ref x2), (3, .ref x3), (4, .int x4)]) hx hb dL_law_2620 hl (by decide) rfl (fun ls hl => ?_)
                                                                                            refine lv_aload_n hx hb dL_law_2622 rfl (lv_at hl 4 rfl) ?_
                                                                                            obtain ⟨hrec, hp⟩ := hp
                                                                                            refine x_call0I (vx_runV (As := []) (rest := []) X (P_X4_thrown_ok (l := l) hl0 hp) (cwV 0 hts (lw_V q3227 q3228 q3229 q178 q3230) rfl rfl rfl (by decide +kernel) ⟨Nat.le_of_ble_eq_true rfl, Nat.le_of_ble_eq_true rfl⟩) ⟨wPc.blind, w_recv hC.1 hM (ci := 3) (q := (RX4, TX4, 28)) rfl hrec, w_pre hC hM hS _⟩ rfl rfl hl.1 rfl (lv_room (Nat.le_of_ble_eq_true rfl)) dL_law_2623 (w_room0 hB)) hS (w_room0 hB) (fun _ _ _ _ _ _ h => False.elim h) (fun v505 M503 H locs hp hM hS => ?_)
                                                                                            refine lv_iload hx hb dL_law_2626 (lv_at hl 1 rfl) ?_
                                                                                            refine lv_icmp_eq (tgt := 2633) hx hb dL_law_2628 (by decide) (fun hc => ?_) (fun hc => ?_)
                                                                                            · have hp := oIf.t hp hc
                                                                                              refine lv_iload hx hb dL_law_2633 (lv_at hl 1 rfl) ?_
                                                                                              refine lv_if_ne (tgt := 2650) hx hb dL_law_2635 (by decide) (fun hc => ?_) (fun hc => ?_)
                                                                                              · have hp := oIf.f hp hc
                                                                                                exact hB2650 rec23 hrec23 _ _ _ _ _ _ _ _ _ _ _ _ hp hM hS hB (lv_sub hl [2, 3, 4, 5, 6] rfl)
                                                                                              · have hp := oIf.t hp hc
                                                                                                refine lv_aload_n hx hb dL_law_2638 rfl (lv_at hl 5 rfl) ?_
                                                                                                refine lv_iconst (v := 0) hx hb dL_law_2639 (by decide) ?_
                                                                                                refine x_lald X hC.1 hM dL_law_2640 hp (fun v506 hp => ?_)
                                                                                                refine lv_iload hx hb dL_law_2641 (lv_at hl 0 rfl) ?_
                                                                                                refine lv_i2l (v := v502.toInt64) hx hb dL_law_2643 rfl ?_
                                                                                                refine W.lcmp hx hb dL_law_2644 ?_
                                                                                                refine lv_if_eq (tgt := 2650) hx hb dL_law_2645 (by decide) (fun hc => ?_) (fun hc => ?_)
                                                                                                · have hp := oIf.t hp hc
                                                                                                  exact hB2650 rec23 hrec23 _ _ _ _ _ _ _ _ _ _ _ _ hp hM hS hB (lv_sub hl [2, 3, 4, 5, 6] rfl)
                                                                                                · have hp := oIf.f hp hc
                                                                                                  exact hp.elim
                                                                                            · have hp := oIf.f hp hc
                                                                                              exact hp.elim
                                                                                          · have hp := oIf.f hp hc42
                                                                                            by_cases hc43 : (v2 &&& (63 : Int32)) = (43 : Int32)
                                                                                            · have hp := oIf.t hp hc43
                                                                                              refine lv_tableIn (off := 2613) (tgt := 2653) hx hb dL_law_40 (by rw [hc43]; decide) (by rw [hc43]; decide) (by rw [hc43]; rfl) (by decide) ?_
                                                                                              refine lv_aload_n hx hb dL_law_2653 rfl (lv_at hl 1 rfl) ?_
                                                                                              refine lv_aload_n hx hb dL_law_2654 rfl (lv_at hl 0 rfl) ?_
                                                                                              refine lv_iload hx hb dL_law_2655 (lv_at hl 4 rfl) ?_
                                                                                              refine lv_iconst (v := 1) hx hb dL_law_2657 (by decide) ?_
                                                                                              refine lv_iadd hx hb dL_law_2658 ?_
                                                                                              refine x_iald X hC.1 hM dL_law_2659 hp (fun v507 hp => ?_)
                                                                                              refine lv_aload_n hx hb dL_law_2660 rfl (lv_at hl 3 rfl) ?_
                                                                                              obtain ⟨c509, hc1, hp⟩ := hp
                                                                                              refine x_callI (vx_runSX (As := [.ref x1, .int v507, .ref x3]) (rest := []) X (P_X0_enoughLimit_ok (l := l) hl0 hp) (vx_cwSW 3 hts (lw_SW q3040 q3041 q147 q3042) rfl rfl rfl (by decide +kernel) ⟨Nat.le_of_ble_eq_true rfl, Nat.le_of_ble_eq_true rfl⟩) ⟨wPc.blind, w_pre hC hM hS _⟩ rfl rfl hl.1 rfl (lv_room (Nat.le_of_ble_eq_true rfl)) dL_law_2661 (w_room hB hc1)) hS hB hc1 (fun _ _ _ _ _ _ h => False.elim h) (fun v510 M508 H locs hp hM hS hB => ?_)
                                                                                              refine lv_istore (lv' := [(5, .int v510), (0, .ref x0), (1, .ref x1), (2, .ref x2), (3, .ref x3), (4, .int x4)]) hx hb dL_law_2664 hl (by decide) rfl (fun ls hl => ?_)
                                                                                              refine lv_aload_n hx hb dL_law_2666 rfl (lv_at hl 3 rfl) ?_
                                                                                              refine lv_aload_n hx hb dL_law_2667 rfl (lv_at hl 1 rfl) ?_
                                                                                              refine lv_iload hx hb dL_law_2668 (lv_at hl 5 rfl) ?_
                                                                                              refine lv_iconst (v := 1) hx hb dL_law_2670 (by decide) ?_
                                                                                              refine lv_iadd hx hb dL_law_2671 ?_
                                                                                              refine x_iald X hC.1 hM dL_law_2672 hp (fun v511 hp => ?_)
                                                                                              obtain ⟨hrec, hp⟩ := hp
                                                                                              refine x_call0I (vx_runV (As := [.int v511]) (rest := []) X (P_X4_enoughLimit_ok (l := l) hl0 hp) (cwV 1 hts (lw_V q3634 q3635 q3636 q178 q3637) rfl rfl rfl (by decide +kernel) ⟨Nat.le_of_ble_eq_true rfl, Nat.le_of_ble_eq_true rfl⟩) ⟨wPc.blind, w_recv hC.1 hM (ci := 3) (q := (RX4, TX4, 28)) rfl hrec, w_pre hC hM hS _⟩ rfl rfl hl.1 rfl (lv_room (Nat.le_of_ble_eq_true rfl)) dL_law_2673 (w_room0 hB)) hS (w_room0 hB) (fun _ _ _ _ _ _ h => False.elim h) (fun v514 M512 H locs hp hM hS => ?_)
                                                                                              refine lv_istore (lv' := [(6, .int v514), (5, .int v510), (0, .ref x0), (1, .ref x1), (2, .ref x2), (3, .ref x3), (4, .int x4)]) hx hb dL_law_2676 hl (by decide) rfl (fun ls hl => ?_)
                                                                                              refine lv_aload_n hx hb dL_law_2678 rfl (lv_at hl 4 rfl) ?_
                                                                                              obtain ⟨hrec, hp⟩ := hp
                                                                                              refine x_call0I (vx_runV (As := []) (rest := []) X (P_X4_thrown_ok (l := l) hl0 hp) (cwV 0 hts (lw_V q3227 q3228 q3229 q178 q3230) rfl rfl rfl (by decide +kernel) ⟨Nat.le_of_ble_eq_true rfl, Nat.le_of_ble_eq_true rfl⟩) ⟨wPc.blind, w_recv hC.1 hM (ci := 3) (q := (RX4, TX4, 28)) rfl hrec, w_pre hC hM hS _⟩ rfl rfl hl.1 rfl (lv_room (Nat.le_of_ble_eq_true rfl)) dL_law_2679 (w_room0 hB)) hS (w_room0 hB) (fun _ _ _ _ _ _ h => False.elim h) (fun v517 M515 H locs hp hM hS => ?_)
                                                                                              refine lv_iload hx hb dL_law_2682 (lv_at hl 1 rfl) ?_
                                                                                              refine lv_icmp_eq (tgt := 2689) hx hb dL_law_2684 (by decide) (fun hc => ?_) (fun hc => ?_)
                                                                                              · have hp := oIf.t hp hc
                                                                                                refine lv_iload hx hb dL_law_2689 (lv_at hl 1 rfl) ?_
                                                                                                refine lv_if_ne (tgt := 2706) hx hb dL_law_2691 (by decide) (fun hc => ?_) (fun hc => ?_)
                                                                                                · have hp := oIf.f hp hc
                                                                                                  exact hB2706 rec23 hrec23 _ _ _ _ _ _ _ _ _ _ _ _ hp hM hS hB (lv_sub hl [2, 3, 4, 5, 6] rfl)
                                                                                                · have hp := oIf.t hp hc
                                                                                                  refine lv_aload_n hx hb dL_law_2694 rfl (lv_at hl 5 rfl) ?_
                                                                                                  refine lv_iconst (v := 0) hx hb dL_law_2695 (by decide) ?_
                                                                                                  refine x_lald X hC.1 hM dL_law_2696 hp (fun v518 hp => ?_)
                                                                                                  refine lv_iload hx hb dL_law_2697 (lv_at hl 0 rfl) ?_
                                                                                                  refine lv_i2l (v := v514.toInt64) hx hb dL_law_2699 rfl ?_
                                                                                                  refine W.lcmp hx hb dL_law_2700 ?_
                                                                                                  refine lv_if_eq (tgt := 2706) hx hb dL_law_2701 (by decide) (fun hc => ?_) (fun hc => ?_)
                                                                                                  · have hp := oIf.t hp hc
                                                                                                    exact hB2706 rec23 hrec23 _ _ _ _ _ _ _ _ _ _ _ _ hp hM hS hB (lv_sub hl [2, 3, 4, 5, 6] rfl)
                                                                                                  · have hp := oIf.f hp hc
                                                                                                    exact hp.elim
                                                                                              · have hp := oIf.f hp hc
                                                                                                exact hp.elim
                                                                                            · have hp := oIf.f hp hc43
                                                                                              by_cases hc44 : (v2 &&& (63 : Int32)) = (44 : Int32)
                                                                                              · have hp := oIf.t hp hc44
                                                                                                refine lv_tableIn (off := 2669) (tgt := 2709) hx hb dL_law_40 (by rw [hc44]; decide) (by rw [hc44]; decide) (by rw [hc44]; rfl) (by decide) ?_
                                                                                                refine lv_aload_n hx hb dL_law_2709 rfl (lv_at hl 1 rfl) ?_
                                                                                                refine lv_aload_n hx hb dL_law_2710 rfl (lv_at hl 0 rfl) ?_
                                                                                                refine lv_iload hx hb dL_law_2711 (lv_at hl 4 rfl) ?_
                                                                                                refine lv_iconst (v := 1) hx hb dL_law_2713 (by decide) ?_
                                                                                                refine lv_iadd hx hb dL_law_2714 ?_
                                                                                                refine x_iald X hC.1 hM dL_law_2715 hp (fun v519 hp => ?_)
                                                                                                refine lv_aload_n hx hb dL_law_2716 rfl (lv_at hl 3 rfl) ?_
                                                                                                obtain ⟨c521, hc1, hp⟩ := hp
                                                                                                refine x_callI (vx_runSX (As := [.ref x1, .int v519, .ref x3]) (rest := []) X (P_X0_printZone_ok (l := l) hl0 hp) (vx_cwSW 3 hts (lw_SW q3049 q3050 q147 q3051) rfl rfl rfl (by decide +kernel) ⟨Nat.le_of_ble_eq_true rfl, Nat.le_of_ble_eq_true rfl⟩) ⟨wPc.blind, w_pre hC hM hS _⟩ rfl rfl hl.1 rfl (lv_room (Nat.le_of_ble_eq_true rfl)) dL_law_2717 (w_room hB hc1)) hS hB hc1 (fun _ _ _ _ _ _ h => False.elim h) (fun v522 M520 H locs hp hM hS hB => ?_)
                                                                                                refine lv_istore (lv' := [(5, .int v522), (0, .ref x0), (1, .ref x1), (2, .ref x2), (3, .ref x3), (4, .int x4)]) hx hb dL_law_2720 hl (by decide) rfl (fun ls hl => ?_)
                                                                                                refine lv_aload_n hx hb dL_law_2722 rfl (lv_at hl 3 rfl) ?_
                                                                                                refine lv_aload_n hx hb dL_law_2723 rfl (lv_at hl 1 rfl) ?_
                                                                                                refine lv_iload hx hb dL_law_2724 (lv_at hl 5 rfl) ?_
                                                                                                refine lv_iconst (v := 1) hx hb dL_law_2726 (by decide) ?_
                                                                                                refine lv_iadd hx hb dL_law_2727 ?_
                                                                                                refine x_iald X hC.1 hM dL_law_2728 hp (fun v523 hp => ?_)
                                                                                                obtain ⟨hrec, hp⟩ := hp
                                                                                                refine x_call0I (vx_runV (As := [.int v523]) (rest := []) X (P_X4_printZone_ok (l := l) hl0 hp) (cwV 1 hts (lw_V q3780 q3781 q3782 q178 q3783) rfl rfl rfl (by decide +kernel) ⟨Nat.le_of_ble_eq_true rfl, Nat.le_of_ble_eq_true rfl⟩) ⟨wPc.blind, w_recv hC.1 hM (ci := 3) (q := (RX4, TX4, 28)) rfl hrec, w_pre hC hM hS _⟩ rfl rfl hl.1 rfl (lv_room (Nat.le_of_ble_eq_true rfl)) dL_law_2729 (w_room0 hB)) hS (w_room0 hB) (fun _ _ _ _ _ _ h => False.elim h) (fun v526 M524 H locs hp hM hS => ?_)
                                                                                                refine lv_istore (lv' := [(6, .int v526), (5, .int v522), (0, .ref x0), (1, .ref x1), (2, .ref x2), (3, .ref x3), (4, .int x4)]) hx hb dL_law_2732 hl (by decide) rfl (fun ls hl => ?_)
                                                                                                refine lv_aload_n hx hb dL_law_2734 rfl (lv_at hl 4 rfl) ?_
                                                                                                obtain ⟨hrec, hp⟩ := hp
                                                                                                refine x_call0I (vx_runV (As := []) (rest := []) X (P_X4_thrown_ok (l := l) hl0 hp) (cwV 0 hts (lw_V q3227 q3228 q3229 q178 q3230) rfl rfl rfl (by decide +kernel) ⟨Nat.le_of_ble_eq_true rfl, Nat.le_of_ble_eq_true rfl⟩) ⟨wPc.blind, w_recv hC.1 hM (ci := 3) (q := (RX4, TX4, 28)) rfl hrec, w_pre hC hM hS _⟩ rfl rfl hl.1 rfl (lv_room (Nat.le_of_ble_eq_true rfl)) dL_law_2735 (w_room0 hB)) hS (w_room0 hB) (fun _ _ _ _ _ _ h => False.elim h) (fun v529 M527 H locs hp hM hS => ?_)
                                                                                                refine lv_iload hx hb dL_law_2738 (lv_at hl 1 rfl) ?_
                                                                                                refine lv_icmp_eq (tgt := 2745) hx hb dL_law_2740 (by decide) (fun hc => ?_) (fun hc => ?_)
                                                                                                · have hp := oIf.t hp hc
                                                                                                  refine lv_iload hx hb dL_law_2745 (lv_at hl 1 rfl) ?_
                                                                                                  refine lv_if_ne (tgt := 2762) hx hb dL_law_2747 (by decide) (fun hc => ?_) (fun hc => ?_)
                                                                                                  · have hp := oIf.f hp hc
                                                                                                    exact hB2762 rec23 hrec23 _ _ _ _ _ _ _ _ _ _ _ _ hp hM hS hB (lv_sub hl [2, 3, 4, 5, 6] rfl)
                                                                                                  · have hp := oIf.t hp hc
                                                                                                    refine lv_aload_n hx hb dL_law_2750 rfl (lv_at hl 5 rfl) ?_
                                                                                                    refine lv_iconst (v := 0) hx hb dL_law_2751 (by decide) ?_
                                                                                                    refine x_lald X hC.1 hM dL_law_2752 hp (fun v530 hp => ?_)
                                                                                                    refine lv_iload hx hb dL_law_2753 (lv_at hl 0 rfl) ?_
                                                                                                    refine lv_i2l (v := v526.toInt64) hx hb dL_law_2755 rfl ?_
                                                                                                    refine W.lcmp hx hb dL_law_2756 ?_
                                                                                                    refine lv_if_eq (tgt := 2762) hx hb dL_law_2757 (by decide) (fun hc => ?_) (fun hc => ?_)
                                                                                                    · have hp := oIf.t hp hc
                                                                                                      exact hB2762 rec23 hrec23 _ _ _ _ _ _ _ _ _ _ _ _ hp hM hS hB (lv_sub hl [2, 3, 4, 5, 6] rfl)
                                                                                                    · have hp := oIf.f hp hc
                                                                                                      exact hp.elim
                                                                                                · have hp := oIf.f hp hc
                                                                                                  exact hp.elim
                                                                                              · have hp := oIf.f hp hc44
                                                                                                by_cases hc45 : (v2 &&& (63 : Int32)) = (45 : Int32)
                                                                                                · have hp := oIf.t hp hc45
                                                                                                  refine lv_tableIn (off := 2725) (tgt := 2765) hx hb dL_law_40 (by rw [hc45]; decide) (by rw [hc45]; decide) (by rw [hc45]; rfl) (by decide) ?_
                                                                                                  refine lv_aload_n hx hb dL_law_2765 rfl (lv_at hl 1 rfl) ?_
                                                                                                  refine lv_aload_n hx hb dL_law_2766 rfl (lv_at hl 0 rfl) ?_
                                                                                                  refine lv_iload hx hb dL_law_2767 (lv_at hl 4 rfl) ?_
                                                                                                  refine lv_iconst (v := 1) hx hb dL_law_2769 (by decide) ?_
                                                                                                  refine lv_iadd hx hb dL_law_2770 ?_
                                                                                                  refine x_iald X hC.1 hM dL_law_2771 hp (fun v531 hp => ?_)
                                                                                                  obtain ⟨hrec, hp⟩ := hp
                                                                                                  refine x_call0I (vx_runV (As := [.int v531]) (rest := []) X (P_X1_outputByte_ok (l := l) hl0 hp) (cwV 1 hts (lw_V q2045 q2046 q2047 q148 q2048) rfl rfl rfl (by decide +kernel) ⟨Nat.le_of_ble_eq_true rfl, Nat.le_of_ble_eq_true rfl⟩) ⟨wPc.blind, w_recv hC.1 hM (ci := 0) (q := (RX1, TX1, 8)) rfl hrec, w_pre hC hM hS _⟩ rfl rfl hl.1 rfl (lv_room (Nat.le_of_ble_eq_true rfl)) dL_law_2772 (w_room0 hB)) hS (w_room0 hB) (fun _ _ _ _ _ _ h => False.elim h) (fun v534 M532 H locs hp hM hS => ?_)
                                                                                                  refine lv_aload_n hx hb dL_law_2775 rfl (lv_at hl 2 rfl) ?_
                                                                                                  refine lv_aload_n hx hb dL_law_2776 rfl (lv_at hl 0 rfl) ?_
                                                                                                  refine lv_iload hx hb dL_law_2777 (lv_at hl 4 rfl) ?_
                                                                                                  refine lv_iconst (v := 1) hx hb dL_law_2779 (by decide) ?_
                                                                                                  refine lv_iadd hx hb dL_law_2780 ?_
                                                                                                  refine x_iald X hC.1 hM dL_law_2781 hp (fun v535 hp => ?_)
                                                                                                  obtain ⟨hrec, hp⟩ := hp
                                                                                                  refine x_call0I (vx_runV (As := [.int v535]) (rest := [.int v534]) X (P_X4_outputByte_ok (l := l) hl0 hp) (cwV 1 hts (lw_V q3796 q3797 q3798 q178 q3799) rfl rfl rfl (by decide +kernel) ⟨Nat.le_of_ble_eq_true rfl, Nat.le_of_ble_eq_true rfl⟩) ⟨wPc.blind, w_recv hC.1 hM (ci := 3) (q := (RX4, TX4, 28)) rfl hrec, w_pre hC hM hS _⟩ rfl rfl hl.1 rfl (lv_room (Nat.le_of_ble_eq_true rfl)) dL_law_2782 (w_room0 hB)) hS (w_room0 hB) (fun _ _ _ _ _ _ h => False.elim h) (fun v538 M536 H locs hp hM hS => ?_)
                                                                                                  refine lv_icmp_eq (tgt := 2847) hx hb dL_law_2785 (by decide) (fun hc => ?_) (fun hc => ?_)
                                                                                                  · have hp := oIf.t hp hc
                                                                                                    exact hB2847 rec23 hrec23 _ _ _ _ _ _ _ _ _ _ _ _ hp hM hS hB (lv_sub hl [0, 1, 2, 3, 4] rfl)
                                                                                                  · have hp := oIf.f hp hc
                                                                                                    exact hp.elim
                                                                                                · have hp := oIf.f hp hc45
                                                                                                  by_cases hc46 : (v2 &&& (63 : Int32)) = (46 : Int32)
                                                                                                  · have hp := oIf.t hp hc46
                                                                                                    refine lv_tableIn (off := 2750) (tgt := 2790) hx hb dL_law_40 (by rw [hc46]; decide) (by rw [hc46]; decide) (by rw [hc46]; rfl) (by decide) ?_
                                                                                                    refine lv_aload_n hx hb dL_law_2790 rfl (lv_at hl 1 rfl) ?_
                                                                                                    obtain ⟨hrec, hp⟩ := hp
                                                                                                    obtain ⟨c540, hc1, hp⟩ := hp
                                                                                                    refine x_callI (vx_runV (As := []) (rest := []) X (P_X1_saveState_ok (l := l) hl0 hp) (cwV 0 hts (lw_V q2060 q2061 q2062 q148 q2063) rfl rfl rfl (by decide +kernel) ⟨Nat.le_of_ble_eq_true rfl, Nat.le_of_ble_eq_true rfl⟩) ⟨wPc.blind, w_recv hC.1 hM (ci := 0) (q := (RX1, TX1, 8)) rfl hrec, w_pre hC hM hS _⟩ rfl rfl hl.1 rfl (lv_room (Nat.le_of_ble_eq_true rfl)) dL_law_2791 (w_room hB hc1)) hS hB hc1 (fun _ _ _ _ _ _ h => False.elim h) (fun v541 M539 H locs hp hM hS hB => ?_)
                                                                                                    refine lv_aload_n hx hb dL_law_2794 rfl (lv_at hl 2 rfl) ?_
                                                                                                    obtain ⟨hrec, hp⟩ := hp
                                                                                                    refine x_call0I (vx_runV (As := []) (rest := [.int v541]) X (P_X4_saveState_ok (l := l) hl0 hp) (cwV 0 hts (lw_V q3239 q3240 q3241 q178 q3242) rfl rfl rfl (by decide +kernel) ⟨Nat.le_of_ble_eq_true rfl, Nat.le_of_ble_eq_true rfl⟩) ⟨wPc.blind, w_recv hC.1 hM (ci := 3) (q := (RX4, TX4, 28)) rfl hrec, w_pre hC hM hS _⟩ rfl rfl hl.1 rfl (lv_room (Nat.le_of_ble_eq_true rfl)) dL_law_2795 (w_room0 hB)) hS (w_room0 hB) (fun _ _ _ _ _ _ h => False.elim h) (fun v544 M542 H locs hp hM hS => ?_)
                                                                                                    refine lv_icmp_eq (tgt := 2847) hx hb dL_law_2798 (by decide) (fun hc => ?_) (fun hc => ?_)
                                                                                                    · have hp := oIf.t hp hc
                                                                                                      exact hB2847 rec23 hrec23 _ _ _ _ _ _ _ _ _ _ _ _ hp hM hS hB (lv_sub hl [0, 1, 2, 3, 4] rfl)
                                                                                                    · have hp := oIf.f hp hc
                                                                                                      exact hp.elim
                                                                                                  · have hp := oIf.f hp hc46
                                                                                                    by_cases hc47 : (v2 &&& (63 : Int32)) = (47 : Int32)
                                                                                                    · have hp := oIf.t hp hc47
                                                                                                      refine lv_tableIn (off := 2763) (tgt := 2803) hx hb dL_law_40 (by rw [hc47]; decide) (by rw [hc47]; decide) (by rw [hc47]; rfl) (by decide) ?_
                                                                                                      refine lv_aload_n hx hb dL_law_2803 rfl (lv_at hl 1 rfl) ?_
                                                                                                      refine lv_aload_n hx hb dL_law_2804 rfl (lv_at hl 3 rfl) ?_
                                                                                                      obtain ⟨c546, hc1, hp⟩ := hp
                                                                                                      refine x_callI (vx_runSX (As := [.ref x1, .ref x3]) (rest := []) X (P_X0_restoreState_ok (l := l) hl0 hp) (vx_cwSW 2 hts (lw_SW q3117 q3118 q147 q3119) rfl rfl rfl (by decide +kernel) ⟨Nat.le_of_ble_eq_true rfl, Nat.le_of_ble_eq_true rfl⟩) ⟨wPc.blind, w_pre hC hM hS _⟩ rfl rfl hl.1 rfl (lv_room (Nat.le_of_ble_eq_true rfl)) dL_law_2805 (w_room hB hc1)) hS hB hc1 (fun _ _ _ _ _ _ h => False.elim h) (fun v547 M545 H locs hp hM hS hB => ?_)
                                                                                                      refine lv_istore (lv' := [(5, .int v547), (0, .ref x0), (1, .ref x1), (2, .ref x2), (3, .ref x3), (4, .int x4)]) hx hb dL_law_2808 hl (by decide) rfl (fun ls hl => ?_)
                                                                                                      refine lv_aload_n hx hb dL_law_2810 rfl (lv_at hl 3 rfl) ?_
                                                                                                      obtain ⟨hrec, hp⟩ := hp
                                                                                                      refine x_call0I (vx_runV (As := []) (rest := []) X (P_X4_restoreState_ok (l := l) hl0 hp) (cwV 0 hts (lw_V q3246 q3247 q3248 q178 q3249) rfl rfl rfl (by decide +kernel) ⟨Nat.le_of_ble_eq_true rfl, Nat.le_of_ble_eq_true rfl⟩) ⟨wPc.blind, w_recv hC.1 hM (ci := 3) (q := (RX4, TX4, 28)) rfl hrec, w_pre hC hM hS _⟩ rfl rfl hl.1 rfl (lv_room (Nat.le_of_ble_eq_true rfl)) dL_law_2811 (w_room0 hB)) hS (w_room0 hB) (fun _ _ _ _ _ _ h => False.elim h) (fun v550 M548 H locs hp hM hS => ?_)
                                                                                                      refine lv_istore (lv' := [(6, .int v550), (5, .int v547), (0, .ref x0), (1, .ref x1), (2, .ref x2), (3, .ref x3), (4, .int x4)]) hx hb dL_law_2814 hl (by decide) rfl (fun ls hl => ?_)
                                                                                                      refine lv_aload_n hx hb dL_law_2816 rfl (lv_at hl 4 rfl) ?_
                                                                                                      obtain ⟨hrec, hp⟩ := hp
                                                                                                      refine x_call0I (vx_runV (As := []) (rest := []) X (P_X4_thrown_ok (l := l) hl0 hp) (cwV 0 hts (lw_V q3227 q3228 q3229 q178 q3230) rfl rfl rfl (by decide +kernel) ⟨Nat.le_of_ble_eq_true rfl, Nat.le_of_ble_eq_true rfl⟩) ⟨wPc.blind, w_recv hC.1 hM (ci := 3) (q := (RX4, TX4, 28)) rfl hrec, w_pre hC hM hS _⟩ rfl rfl hl.1 rfl (lv_room (Nat.le_of_ble_eq_true rfl)) dL_law_2817 (w_room0 hB)) hS (w_room0 hB) (fun _ _ _ _ _ _ h => False.elim h) (fun v553 M551 H locs hp hM hS => ?_)
                                                                                                      refine lv_iload hx hb dL_law_2820 (lv_at hl 1 rfl) ?_
                                                                                                      refine lv_icmp_eq (tgt := 2827) hx hb dL_law_2822 (by decide) (fun hc => ?_) (fun hc => ?_)
                                                                                                      · have hp := oIf.t hp hc
                                                                                                        refine lv_iload hx hb dL_law_2827 (lv_at hl 1 rfl) ?_
                                                                                                        refine lv_if_ne (tgt := 2844) hx hb dL_law_2829 (by decide) (fun hc => ?_) (fun hc => ?_)
                                                                                                        · have hp := oIf.f hp hc
                                                                                                          exact hB2844 rec23 hrec23 _ _ _ _ _ _ _ _ _ _ _ _ hp hM hS hB (lv_sub hl [2, 3, 4, 5, 6] rfl)
                                                                                                        · have hp := oIf.t hp hc
                                                                                                          refine lv_aload_n hx hb dL_law_2832 rfl (lv_at hl 5 rfl) ?_
                                                                                                          refine lv_iconst (v := 0) hx hb dL_law_2833 (by decide) ?_
                                                                                                          refine x_lald X hC.1 hM dL_law_2834 hp (fun v554 hp => ?_)
                                                                                                          refine lv_iload hx hb dL_law_2835 (lv_at hl 0 rfl) ?_
                                                                                                          refine lv_i2l (v := v550.toInt64) hx hb dL_law_2837 rfl ?_
                                                                                                          refine W.lcmp hx hb dL_law_2838 ?_
                                                                                                          refine lv_if_eq (tgt := 2844) hx hb dL_law_2839 (by decide) (fun hc => ?_) (fun hc => ?_)
                                                                                                          · have hp := oIf.t hp hc
                                                                                                            exact hB2844 rec23 hrec23 _ _ _ _ _ _ _ _ _ _ _ _ hp hM hS hB (lv_sub hl [2, 3, 4, 5, 6] rfl)
                                                                                                          · have hp := oIf.f hp hc
                                                                                                            exact hp.elim
                                                                                                      · have hp := oIf.f hp hc
                                                                                                        exact hp.elim
                                                                                                    · have hp := oIf.f hp hc47
                                                                                                      refine lv_tableOut (tgt := 2847) hx hb dL_law_40 (w_tsw 0 48 (by decide) (by decide) (fun i hi => ?_)) (by decide) ?_
                                                                                                      · have hi2 : i = 0 ∨ i = 1 ∨ i = 2 ∨ i = 3 ∨ i = 4 ∨ i = 5 ∨ i = 6 ∨ i = 7 ∨ i = 8 ∨ i = 9 ∨ i = 10 ∨ i = 11 ∨ i = 12 ∨ i = 13 ∨ i = 14 ∨ i = 15 ∨ i = 16 ∨ i = 17 ∨ i = 18 ∨ i = 19 ∨ i = 20 ∨ i = 21 ∨ i = 22 ∨ i = 23 ∨ i = 24 ∨ i = 25 ∨ i = 26 ∨ i = 27 ∨ i = 28 ∨ i = 29 ∨ i = 30 ∨ i = 31 ∨ i = 32 ∨ i = 33 ∨ i = 34 ∨ i = 35 ∨ i = 36 ∨ i = 37 ∨ i = 38 ∨ i = 39 ∨ i = 40 ∨ i = 41 ∨ i = 42 ∨ i = 43 ∨ i = 44 ∨ i = 45 ∨ i = 46 ∨ i = 47 := by omega
                                                                                                        rcases hi2 with rfl | rfl | rfl | rfl | rfl | rfl | rfl | rfl | rfl | rfl | rfl | rfl | rfl | rfl | rfl | rfl | rfl | rfl | rfl | rfl | rfl | rfl | rfl | rfl | rfl | rfl | rfl | rfl | rfl | rfl | rfl | rfl | rfl | rfl | rfl | rfl | rfl | rfl | rfl | rfl | rfl | rfl | rfl | rfl | rfl | rfl | rfl | rfl
                                                                                                        · exact fun h => hc0 (h.trans (by decide))
                                                                                                        · exact fun h => hc1 (h.trans (by decide))
                                                                                                        · exact fun h => hc2 (h.trans (by decide))
                                                                                                        · exact fun h => hc3 (h.trans (by decide))
                                                                                                        · exact fun h => hc4 (h.trans (by decide))
                                                                                                        · exact fun h => hc5 (h.trans (by decide))
                                                                                                        · exact fun h => hc6 (h.trans (by decide))
                                                                                                        · exact fun h => hc7 (h.trans (by decide))
                                                                                                        · exact fun h => hc8 (h.trans (by decide))
                                                                                                        · exact fun h => hc9 (h.trans (by decide))
                                                                                                        · exact fun h => hc10 (h.trans (by decide))
                                                                                                        · exact fun h => hc11 (h.trans (by decide))
                                                                                                        · exact fun h => hc12 (h.trans (by decide))
                                                                                                        · exact fun h => hc13 (h.trans (by decide))
                                                                                                        · exact fun h => hc14 (h.trans (by decide))
                                                                                                        · exact fun h => hc15 (h.trans (by decide))
                                                                                                        · exact fun h => hc16 (h.trans (by decide))
                                                                                                        · exact fun h => hc17 (h.trans (by decide))
                                                                                                        · exact fun h => hc18 (h.trans (by decide))
                                                                                                        · exact fun h => hc19 (h.trans (by decide))
                                                                                                        · exact fun h => hc20 (h.trans (by decide))
                                                                                                        · exact fun h => hc21 (h.trans (by decide))
                                                                                                        · exact fun h => hc22 (h.trans (by decide))
                                                                                                        · exact fun h => hc23 (h.trans (by decide))
                                                                                                        · exact fun h => hc24 (h.trans (by decide))
                                                                                                        · exact fun h => hc25 (h.trans (by decide))
                                                                                                        · exact fun h => hc26 (h.trans (by decide))
                                                                                                        · exact fun h => hc27 (h.trans (by decide))
                                                                                                        · exact fun h => hc28 (h.trans (by decide))
                                                                                                        · exact fun h => hc29 (h.trans (by decide))
                                                                                                        · exact fun h => hc30 (h.trans (by decide))
                                                                                                        · exact fun h => hc31 (h.trans (by decide))
                                                                                                        · exact fun h => hc32 (h.trans (by decide))
                                                                                                        · exact fun h => hc33 (h.trans (by decide))
                                                                                                        · exact fun h => hc34 (h.trans (by decide))
                                                                                                        · exact fun h => hc35 (h.trans (by decide))
                                                                                                        · exact fun h => hc36 (h.trans (by decide))
                                                                                                        · exact fun h => hc37 (h.trans (by decide))
                                                                                                        · exact fun h => hc38 (h.trans (by decide))
                                                                                                        · exact fun h => hc39 (h.trans (by decide))
                                                                                                        · exact fun h => hc40 (h.trans (by decide))
                                                                                                        · exact fun h => hc41 (h.trans (by decide))
                                                                                                        · exact fun h => hc42 (h.trans (by decide))
                                                                                                        · exact fun h => hc43 (h.trans (by decide))
                                                                                                        · exact fun h => hc44 (h.trans (by decide))
                                                                                                        · exact fun h => hc45 (h.trans (by decide))
                                                                                                        · exact fun h => hc46 (h.trans (by decide))
                                                                                                        · exact fun h => hc47 (h.trans (by decide))
                                                                                                      · exact hB2847 rec23 hrec23 _ _ _ _ _ _ _ _ _ _ _ _ hp hM hS hB (lv_sub hl [0, 1, 2, 3, 4] rfl)
  have hL23 : ∀ (n : Nat), ∀ (x0 : Nat) (x1 : Nat) (x2 : Nat) (x3 : Nat) (x4 : Int32) (M : wM) (bq : Nat) (H : Heap) (locs : List Loc) (ls : Array Slot) (cells slots : Nat), L_L_law_23 G Q n x0 x1 x2 x3 x4 M bq → wR G M H → va_S (wA G) s.heap H locs → (cells + bq ≤ (room_1).cells ∧ slots + bq ≤ (room_1).slots) → lv_has ls 9 [(0, .ref x0), (1, .ref x1), (2, .ref x2), (3, .ref x3), (4, .int x4)] → W p l e room_1 s m ([.ref p1] : List Value).toArray below meth c H locs cells slots (lw_Z below ([.ref p1] : List Value).toArray s) (F0 m 23 ls []) := by
    intro n
    induction n with
    | zero => intro _ _ _ _ _ _ _ _ _ _ _ _ hp; exact False.elim hp
    | succ n ih => intro x0 x1 x2 x3 x4 M bq H locs ls cells slots hp hM hS hB hl; exact hB23 (L_L_law_23 G Q n) ih _ _ _ _ _ _ _ _ _ _ _ _ hp hM hS hB hl
  refine x_new X hC hM hS hB (ci := 0) (C := RX1) (T := TX1) (N := 8) rfl in_X1 tyX1 tyX1_ok q212 q213 q148 rfl (by decide) dL_law_0 hp (fun a1 M2 H b3 cells slots hM hS hB hp => ?_)
  refine lv_dup hx hb dL_law_3 rfl ?_
  obtain ⟨c5, hc1, hp⟩ := hp
  refine x_callV (vx_runI (As := []) (rest := [.ref a1]) X (P_X1_init_ok (l := l) hl0 hp) (cwI 0 hts (lw_meth q216) rfl rfl rfl (hts _ q148) (hts _ q214) (hts _ q215) rfl (by decide +kernel) ⟨Nat.le_of_ble_eq_true rfl, Nat.le_of_ble_eq_true rfl⟩) ⟨wPc.blind, w_pre hC hM hS _⟩ rfl rfl hl.1 rfl (lv_room (Nat.le_of_ble_eq_true rfl)) dL_law_4 (w_room hB hc1)) hS hB hc1 (fun _ _ _ _ _ _ h => False.elim h) (fun M4 H locs hp hM hS hB => ?_)
  refine lv_astore_n (lv' := [(1, .ref a1), (0, .ref p1)]) hx hb dL_law_7 rfl hl (by decide) rfl (fun ls hl => ?_)
  refine x_new X hC hM hS hB (ci := 3) (C := RX4) (T := TX4) (N := 28) rfl in_X4 tyX4 tyX4_ok q3124 q3125 q178 rfl (by decide) dL_law_8 hp (fun a6 M7 H b8 cells slots hM hS hB hp => ?_)
  refine lv_dup hx hb dL_law_11 rfl ?_
  obtain ⟨c10, hc1, hp⟩ := hp
  refine x_callV (vx_runI (As := []) (rest := [.ref a6]) X (P_X4_init_ok (l := l) hl0 hp) (cwI 0 hts (lw_meth q3128) rfl rfl rfl (hts _ q178) (hts _ q3126) (hts _ q3127) rfl (by decide +kernel) ⟨Nat.le_of_ble_eq_true rfl, Nat.le_of_ble_eq_true rfl⟩) ⟨wPc.blind, w_pre hC hM hS _⟩ rfl rfl hl.1 rfl (lv_room (Nat.le_of_ble_eq_true rfl)) dL_law_12 (w_room hB hc1)) hS hB hc1 (fun _ _ _ _ _ _ h => False.elim h) (fun M9 H locs hp hM hS hB => ?_)
  refine lv_astore_n (lv' := [(2, .ref a6), (1, .ref a1), (0, .ref p1)]) hx hb dL_law_15 rfl hl (by decide) rfl (fun ls hl => ?_)
  refine lv_iconst (v := 1) hx hb dL_law_16 (by decide) ?_
  refine x_newa X hC hM hS hB .long rfl q491 (by decide) (by decide) (fun _ h => h) (fun _ _ => rfl) dL_law_17 hp (fun a11 M12 H b13 cells slots hM hS hB hp => ?_)
  refine lv_astore_n (lv' := [(3, .ref a11), (2, .ref a6), (1, .ref a1), (0, .ref p1)]) hx hb dL_law_19 rfl hl (by decide) rfl (fun ls hl => ?_)
  refine lv_iconst (v := 0) hx hb dL_law_20 (by decide) ?_
  refine lv_istore (lv' := [(4, .int (0 : Int32)), (3, .ref a11), (2, .ref a6), (1, .ref a1), (0, .ref p1)]) hx hb dL_law_21 hl (by decide) rfl (fun ls hl => ?_)
  obtain ⟨n, hp⟩ := hp
  exact hL23 n _ _ _ _ _ _ _ _ _ _ _ _ hp hM hS hB (lv_sub hl [4, 3, 2, 1, 0] rfl)

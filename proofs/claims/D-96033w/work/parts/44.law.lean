set_option maxRecDepth 100000
def w_L_law_1393 (xs : Nat → Int32) (L : Nat) (Q : Int32 → St → Prop) (K18 : Int32 → St → Prop) (x3 : Int32) (χ : St) : Prop := (K18 (x3 + (6 : Int32)) χ)
def w_L_law_18 (xs : Nat → Int32) (L : Nat) (Q : Int32 → St → Prop) : Nat → Int32 → St → Prop
  | 0 => fun _ _ => False
  | n + 1 => fun x3 χ => ((((Int32.ofNat L) - (6 : Int32)) < x3 → (Q (1 : Int32) χ)) ∧ (¬ ((Int32.ofNat L) - (6 : Int32)) < x3 → (vp_in x3 L) ∧ ((∀ v1 : Int32, v1 = ((xs x3.toNatClampNeg) &&& (63 : Int32)) → ((v1 = (0 : Int32) → (vp_in (x3 + (1 : Int32)) L) ∧ ((w_C_part (xs (x3 + (1 : Int32)).toNatClampNeg) χ (fun r2 χ3 => (vp_in (x3 + (1 : Int32)) L) ∧ ((w_M_part (xs (x3 + (1 : Int32)).toNatClampNeg) χ3 (fun r4 χ5 => ((r2 = r4 → (w_L_law_1393 xs L Q (w_L_law_18 xs L Q n) x3 χ5)) ∧ (¬ r2 = r4 → (Q (0 : Int32) χ5)))))))))) ∧ (v1 = (1 : Int32) → (vp_in (x3 + (1 : Int32)) L) ∧ ((vp_in (x3 + (2 : Int32)) L) ∧ ((vp_in (x3 + (3 : Int32)) L) ∧ ((w_C_parts (xs (x3 + (1 : Int32)).toNatClampNeg) (xs (x3 + (2 : Int32)).toNatClampNeg) (xs (x3 + (3 : Int32)).toNatClampNeg) χ (fun r6 χ7 => (vp_in (x3 + (1 : Int32)) L) ∧ ((vp_in (x3 + (2 : Int32)) L) ∧ ((vp_in (x3 + (3 : Int32)) L) ∧ ((w_M_parts (xs (x3 + (1 : Int32)).toNatClampNeg) (xs (x3 + (2 : Int32)).toNatClampNeg) (xs (x3 + (3 : Int32)).toNatClampNeg) χ7 (fun r8 χ9 => ((r6 = r8 → (w_L_law_1393 xs L Q (w_L_law_18 xs L Q n) x3 χ9)) ∧ (¬ r6 = r8 → (Q (0 : Int32) χ9)))))))))))))) ∧ (v1 = (2 : Int32) → (vp_in (x3 + (1 : Int32)) L) ∧ ((vp_in (x3 + (2 : Int32)) L) ∧ ((vp_in (x3 + (3 : Int32)) L) ∧ ((w_C_mend (xs (x3 + (1 : Int32)).toNatClampNeg) (xs (x3 + (2 : Int32)).toNatClampNeg) (xs (x3 + (3 : Int32)).toNatClampNeg) χ (fun r10 χ11 => (vp_in (x3 + (1 : Int32)) L) ∧ ((vp_in (x3 + (2 : Int32)) L) ∧ ((vp_in (x3 + (3 : Int32)) L) ∧ ((w_M_mend (xs (x3 + (1 : Int32)).toNatClampNeg) (xs (x3 + (2 : Int32)).toNatClampNeg) (xs (x3 + (3 : Int32)).toNatClampNeg) χ11 (fun r12 χ13 => ((r10 = r12 → (w_L_law_1393 xs L Q (w_L_law_18 xs L Q n) x3 χ13)) ∧ (¬ r10 = r12 → (Q (0 : Int32) χ13)))))))))))))) ∧ (v1 = (3 : Int32) → (vp_in (x3 + (1 : Int32)) L) ∧ ((vp_in (x3 + (2 : Int32)) L) ∧ ((w_C_find (xs (x3 + (1 : Int32)).toNatClampNeg) (xs (x3 + (2 : Int32)).toNatClampNeg) χ (fun r14 χ15 => (vp_in (x3 + (1 : Int32)) L) ∧ ((vp_in (x3 + (2 : Int32)) L) ∧ ((w_M_find (xs (x3 + (1 : Int32)).toNatClampNeg) (xs (x3 + (2 : Int32)).toNatClampNeg) χ15 (fun r16 χ17 => ((r14 = r16 → (w_L_law_1393 xs L Q (w_L_law_18 xs L Q n) x3 χ17)) ∧ (¬ r14 = r16 → (Q (0 : Int32) χ17)))))))))))) ∧ (v1 = (4 : Int32) → (vp_in (x3 + (1 : Int32)) L) ∧ ((vp_in (x3 + (2 : Int32)) L) ∧ ((w_C_of (xs (x3 + (1 : Int32)).toNatClampNeg) (xs (x3 + (2 : Int32)).toNatClampNeg) χ (fun r18 χ19 => (vp_in (x3 + (1 : Int32)) L) ∧ ((vp_in (x3 + (2 : Int32)) L) ∧ ((w_M_of (xs (x3 + (1 : Int32)).toNatClampNeg) (xs (x3 + (2 : Int32)).toNatClampNeg) χ19 (fun r20 χ21 => ((r18 = r20 → (w_L_law_1393 xs L Q (w_L_law_18 xs L Q n) x3 χ21)) ∧ (¬ r18 = r20 → (Q (0 : Int32) χ21)))))))))))) ∧ (v1 = (5 : Int32) → (vp_in (x3 + (1 : Int32)) L) ∧ ((w_C_feed (xs (x3 + (1 : Int32)).toNatClampNeg) χ (fun r22 χ23 => (vp_in (x3 + (1 : Int32)) L) ∧ ((w_M_feed (xs (x3 + (1 : Int32)).toNatClampNeg) χ23 (fun r24 χ25 => ((r22 = r24 → (w_L_law_1393 xs L Q (w_L_law_18 xs L Q n) x3 χ25)) ∧ (¬ r22 = r24 → (Q (0 : Int32) χ25)))))))))) ∧ (v1 = (6 : Int32) → (vp_in (x3 + (1 : Int32)) L) ∧ ((w_C_law (xs (x3 + (1 : Int32)).toNatClampNeg) χ (fun r26 χ27 => (vp_in (x3 + (1 : Int32)) L) ∧ ((w_M_law (xs (x3 + (1 : Int32)).toNatClampNeg) χ27 (fun r28 χ29 => ((r26 = r28 → (w_L_law_1393 xs L Q (w_L_law_18 xs L Q n) x3 χ29)) ∧ (¬ r26 = r28 → (Q (0 : Int32) χ29)))))))))) ∧ (v1 = (7 : Int32) → (vp_in (x3 + (1 : Int32)) L) ∧ ((vp_in (x3 + (2 : Int32)) L) ∧ ((w_C_number (xs (x3 + (1 : Int32)).toNatClampNeg) (xs (x3 + (2 : Int32)).toNatClampNeg) χ (fun r30 χ31 => (vp_in (x3 + (1 : Int32)) L) ∧ ((vp_in (x3 + (2 : Int32)) L) ∧ ((w_M_number (xs (x3 + (1 : Int32)).toNatClampNeg) (xs (x3 + (2 : Int32)).toNatClampNeg) χ31 (fun r32 χ33 => ((r30 = r32 → (w_L_law_1393 xs L Q (w_L_law_18 xs L Q n) x3 χ33)) ∧ (¬ r30 = r32 → (Q (0 : Int32) χ33)))))))))))) ∧ (v1 = (8 : Int32) → (vp_in (x3 + (1 : Int32)) L) ∧ ((vp_in (x3 + (2 : Int32)) L) ∧ ((w_C_likely (xs (x3 + (1 : Int32)).toNatClampNeg) (xs (x3 + (2 : Int32)).toNatClampNeg) χ (fun r34 χ35 => (vp_in (x3 + (1 : Int32)) L) ∧ ((vp_in (x3 + (2 : Int32)) L) ∧ ((w_M_likely (xs (x3 + (1 : Int32)).toNatClampNeg) (xs (x3 + (2 : Int32)).toNatClampNeg) χ35 (fun r36 χ37 => (((lg_cmp r34 r36) = 0 → (w_L_law_1393 xs L Q (w_L_law_18 xs L Q n) x3 χ37)) ∧ (¬ (lg_cmp r34 r36) = 0 → (Q (0 : Int32) χ37)))))))))))) ∧ (v1 = (9 : Int32) → (vp_in (x3 + (1 : Int32)) L) ∧ ((w_C_percent (xs (x3 + (1 : Int32)).toNatClampNeg) χ (fun r38 χ39 => (vp_in (x3 + (1 : Int32)) L) ∧ ((w_M_percent (xs (x3 + (1 : Int32)).toNatClampNeg) χ39 (fun r40 χ41 => ((r38 = r40 → (w_L_law_1393 xs L Q (w_L_law_18 xs L Q n) x3 χ41)) ∧ (¬ r38 = r40 → (Q (0 : Int32) χ41)))))))))) ∧ (v1 = (10 : Int32) → (vp_in (x3 + (1 : Int32)) L) ∧ ((w_C_likeliest (xs (x3 + (1 : Int32)).toNatClampNeg) χ (fun r42 χ43 => (vp_in (x3 + (1 : Int32)) L) ∧ ((w_M_likeliest (xs (x3 + (1 : Int32)).toNatClampNeg) χ43 (fun r44 χ45 => ((r42 = r44 → (w_L_law_1393 xs L Q (w_L_law_18 xs L Q n) x3 χ45)) ∧ (¬ r42 = r44 → (Q (0 : Int32) χ45)))))))))) ∧ (v1 = (11 : Int32) → (vp_in (x3 + (1 : Int32)) L) ∧ ((vp_in (x3 + (2 : Int32)) L) ∧ ((w_C_when (xs (x3 + (1 : Int32)).toNatClampNeg) (xs (x3 + (2 : Int32)).toNatClampNeg) χ (fun r46 χ47 => (vp_in (x3 + (1 : Int32)) L) ∧ ((vp_in (x3 + (2 : Int32)) L) ∧ ((w_M_when (xs (x3 + (1 : Int32)).toNatClampNeg) (xs (x3 + (2 : Int32)).toNatClampNeg) χ47 (fun r48 χ49 => ((r46 = r48 → (w_L_law_1393 xs L Q (w_L_law_18 xs L Q n) x3 χ49)) ∧ (¬ r46 = r48 → (Q (0 : Int32) χ49)))))))))))) ∧ (v1 = (12 : Int32) → (vp_in (x3 + (1 : Int32)) L) ∧ ((w_C_whole (xs (x3 + (1 : Int32)).toNatClampNeg) χ (fun r50 χ51 => (vp_in (x3 + (1 : Int32)) L) ∧ ((w_M_whole (xs (x3 + (1 : Int32)).toNatClampNeg) χ51 (fun r52 χ53 => ((r50 = r52 → (w_L_law_1393 xs L Q (w_L_law_18 xs L Q n) x3 χ53)) ∧ (¬ r50 = r52 → (Q (0 : Int32) χ53)))))))))) ∧ (v1 = (13 : Int32) → (w_C_odd χ (fun r54 χ55 => (w_M_odd χ55 (fun r56 χ57 => ((r54 = r56 → (w_L_law_1393 xs L Q (w_L_law_18 xs L Q n) x3 χ57)) ∧ (¬ r54 = r56 → (Q (0 : Int32) χ57)))))))) ∧ (v1 = (14 : Int32) → (vp_in (x3 + (1 : Int32)) L) ∧ ((w_C_next (xs (x3 + (1 : Int32)).toNatClampNeg) χ (fun r58 χ59 => (vp_in (x3 + (1 : Int32)) L) ∧ ((w_M_next (xs (x3 + (1 : Int32)).toNatClampNeg) χ59 (fun r60 χ61 => ((r58 = r60 → (w_L_law_1393 xs L Q (w_L_law_18 xs L Q n) x3 χ61)) ∧ (¬ r58 = r60 → (Q (0 : Int32) χ61)))))))))) ∧ (v1 = (15 : Int32) → (vp_in (x3 + (1 : Int32)) L) ∧ ((vp_in (x3 + (2 : Int32)) L) ∧ ((w_C_named (xs (x3 + (1 : Int32)).toNatClampNeg) (xs (x3 + (2 : Int32)).toNatClampNeg) χ (fun r62 χ63 => (vp_in (x3 + (1 : Int32)) L) ∧ ((vp_in (x3 + (2 : Int32)) L) ∧ ((w_M_named (xs (x3 + (1 : Int32)).toNatClampNeg) (xs (x3 + (2 : Int32)).toNatClampNeg) χ63 (fun r64 χ65 => ((r62 = r64 → (w_L_law_1393 xs L Q (w_L_law_18 xs L Q n) x3 χ65)) ∧ (¬ r62 = r64 → (Q (0 : Int32) χ65)))))))))))) ∧ (v1 = (16 : Int32) → (vp_in (x3 + (1 : Int32)) L) ∧ ((vp_in (x3 + (2 : Int32)) L) ∧ ((w_C_plan (xs (x3 + (1 : Int32)).toNatClampNeg) (xs (x3 + (2 : Int32)).toNatClampNeg) χ (fun r66 χ67 => (vp_in (x3 + (1 : Int32)) L) ∧ ((vp_in (x3 + (2 : Int32)) L) ∧ ((w_M_plan (xs (x3 + (1 : Int32)).toNatClampNeg) (xs (x3 + (2 : Int32)).toNatClampNeg) χ67 (fun r68 χ69 => ((r66 = r68 → (w_L_law_1393 xs L Q (w_L_law_18 xs L Q n) x3 χ69)) ∧ (¬ r66 = r68 → (Q (0 : Int32) χ69)))))))))))) ∧ (v1 = (17 : Int32) → (vp_in (x3 + (1 : Int32)) L) ∧ ((vp_in (x3 + (2 : Int32)) L) ∧ ((w_C_believed (xs (x3 + (1 : Int32)).toNatClampNeg) (xs (x3 + (2 : Int32)).toNatClampNeg) χ (fun r70 χ71 => (vp_in (x3 + (1 : Int32)) L) ∧ ((vp_in (x3 + (2 : Int32)) L) ∧ ((w_M_believed (xs (x3 + (1 : Int32)).toNatClampNeg) (xs (x3 + (2 : Int32)).toNatClampNeg) χ71 (fun r72 χ73 => ((r70 = r72 → (w_L_law_1393 xs L Q (w_L_law_18 xs L Q n) x3 χ73)) ∧ (¬ r70 = r72 → (Q (0 : Int32) χ73)))))))))))) ∧ (v1 = (18 : Int32) → (vp_in (x3 + (1 : Int32)) L) ∧ ((vp_in (x3 + (2 : Int32)) L) ∧ ((vp_in (x3 + (3 : Int32)) L) ∧ ((w_C_cheapest (xs (x3 + (1 : Int32)).toNatClampNeg) (xs (x3 + (2 : Int32)).toNatClampNeg) (xs (x3 + (3 : Int32)).toNatClampNeg) χ (fun r74 χ75 => (vp_in (x3 + (1 : Int32)) L) ∧ ((vp_in (x3 + (2 : Int32)) L) ∧ ((vp_in (x3 + (3 : Int32)) L) ∧ ((w_M_cheapest (xs (x3 + (1 : Int32)).toNatClampNeg) (xs (x3 + (2 : Int32)).toNatClampNeg) (xs (x3 + (3 : Int32)).toNatClampNeg) χ75 (fun r76 χ77 => ((r74 = r76 → (w_L_law_1393 xs L Q (w_L_law_18 xs L Q n) x3 χ77)) ∧ (¬ r74 = r76 → (Q (0 : Int32) χ77)))))))))))))) ∧ (v1 = (19 : Int32) → (vp_in (x3 + (1 : Int32)) L) ∧ ((vp_in (x3 + (2 : Int32)) L) ∧ ((w_C_spoils (xs (x3 + (1 : Int32)).toNatClampNeg) (xs (x3 + (2 : Int32)).toNatClampNeg) χ (fun r78 χ79 => (vp_in (x3 + (1 : Int32)) L) ∧ ((vp_in (x3 + (2 : Int32)) L) ∧ ((w_M_spoils (xs (x3 + (1 : Int32)).toNatClampNeg) (xs (x3 + (2 : Int32)).toNatClampNeg) χ79 (fun r80 χ81 => ((r78 = r80 → (w_L_law_1393 xs L Q (w_L_law_18 xs L Q n) x3 χ81)) ∧ (¬ r78 = r80 → (Q (0 : Int32) χ81)))))))))))) ∧ (v1 = (20 : Int32) → (vp_in (x3 + (1 : Int32)) L) ∧ ((w_C_price (xs (x3 + (1 : Int32)).toNatClampNeg) χ (fun r82 χ83 => (vp_in (x3 + (1 : Int32)) L) ∧ ((w_M_price (xs (x3 + (1 : Int32)).toNatClampNeg) χ83 (fun r84 χ85 => ((r82 = r84 → (w_L_law_1393 xs L Q (w_L_law_18 xs L Q n) x3 χ85)) ∧ (¬ r82 = r84 → (Q (0 : Int32) χ85)))))))))) ∧ (v1 = (21 : Int32) → (vp_in (x3 + (1 : Int32)) L) ∧ ((vp_in (x3 + (2 : Int32)) L) ∧ ((w_C_paper (xs (x3 + (1 : Int32)).toNatClampNeg) (xs (x3 + (2 : Int32)).toNatClampNeg) χ (fun r86 χ87 => (vp_in (x3 + (1 : Int32)) L) ∧ ((vp_in (x3 + (2 : Int32)) L) ∧ ((w_M_paper (xs (x3 + (1 : Int32)).toNatClampNeg) (xs (x3 + (2 : Int32)).toNatClampNeg) χ87 (fun r88 χ89 => ((r86 = r88 → (w_L_law_1393 xs L Q (w_L_law_18 xs L Q n) x3 χ89)) ∧ (¬ r86 = r88 → (Q (0 : Int32) χ89)))))))))))) ∧ (v1 = (22 : Int32) → (vp_in (x3 + (1 : Int32)) L) ∧ ((w_C_papers (xs (x3 + (1 : Int32)).toNatClampNeg) χ (fun r90 χ91 => (vp_in (x3 + (1 : Int32)) L) ∧ ((w_M_papers (xs (x3 + (1 : Int32)).toNatClampNeg) χ91 (fun r92 χ93 => ((r90 = r92 → (w_L_law_1393 xs L Q (w_L_law_18 xs L Q n) x3 χ93)) ∧ (¬ r90 = r92 → (Q (0 : Int32) χ93)))))))))) ∧ (v1 = (23 : Int32) → (vp_in (x3 + (1 : Int32)) L) ∧ ((w_C_house (xs (x3 + (1 : Int32)).toNatClampNeg) χ (fun r94 χ95 => (vp_in (x3 + (1 : Int32)) L) ∧ ((w_M_house (xs (x3 + (1 : Int32)).toNatClampNeg) χ95 (fun r96 χ97 => ((r94 = r96 → (w_L_law_1393 xs L Q (w_L_law_18 xs L Q n) x3 χ97)) ∧ (¬ r94 = r96 → (Q (0 : Int32) χ97)))))))))) ∧ (v1 = (24 : Int32) → (vp_in (x3 + (1 : Int32)) L) ∧ ((vp_in (x3 + (2 : Int32)) L) ∧ ((vp_in (x3 + (3 : Int32)) L) ∧ ((w_C_drawn (xs (x3 + (1 : Int32)).toNatClampNeg) (xs (x3 + (2 : Int32)).toNatClampNeg) (xs (x3 + (3 : Int32)).toNatClampNeg) χ (fun r98 χ99 => (vp_in (x3 + (1 : Int32)) L) ∧ ((vp_in (x3 + (2 : Int32)) L) ∧ ((vp_in (x3 + (3 : Int32)) L) ∧ ((w_M_drawn (xs (x3 + (1 : Int32)).toNatClampNeg) (xs (x3 + (2 : Int32)).toNatClampNeg) (xs (x3 + (3 : Int32)).toNatClampNeg) χ99 (fun r100 χ101 => ((r98 = r100 → (w_L_law_1393 xs L Q (w_L_law_18 xs L Q n) x3 χ101)) ∧ (¬ r98 = r100 → (Q (0 : Int32) χ101)))))))))))))) ∧ (v1 = (25 : Int32) → (w_C_image χ (fun r102 χ103 => (w_M_image χ103 (fun r104 χ105 => ((r102 = r104 → (w_L_law_1393 xs L Q (w_L_law_18 xs L Q n) x3 χ105)) ∧ (¬ r102 = r104 → (Q (0 : Int32) χ105)))))))) ∧ (v1 = (26 : Int32) → (w_C_back χ (fun r106 χ107 => (w_M_back χ107 (fun r108 χ109 => ((r106 = r108 → (w_L_law_1393 xs L Q (w_L_law_18 xs L Q n) x3 χ109)) ∧ (¬ r106 = r108 → (Q (0 : Int32) χ109)))))))) ∧ (v1 = (27 : Int32) → (w_C_undo χ (fun r110 χ111 => (w_M_undo χ111 (fun r112 χ113 => ((r110 = r112 → (w_L_law_1393 xs L Q (w_L_law_18 xs L Q n) x3 χ113)) ∧ (¬ r110 = r112 → (Q (0 : Int32) χ113)))))))) ∧ (v1 = (28 : Int32) → (w_C_redo χ (fun r114 χ115 => (w_M_redo χ115 (fun r116 χ117 => ((r114 = r116 → (w_L_law_1393 xs L Q (w_L_law_18 xs L Q n) x3 χ117)) ∧ (¬ r114 = r116 → (Q (0 : Int32) χ117)))))))) ∧ (v1 = (29 : Int32) → (vp_in (x3 + (1 : Int32)) L) ∧ ((w_C_body (xs (x3 + (1 : Int32)).toNatClampNeg) χ (fun r118 χ119 => (vp_in (x3 + (1 : Int32)) L) ∧ ((w_M_body (xs (x3 + (1 : Int32)).toNatClampNeg) χ119 (fun r120 χ121 => ((r118 = r120 → (w_L_law_1393 xs L Q (w_L_law_18 xs L Q n) x3 χ121)) ∧ (¬ r118 = r120 → (Q (0 : Int32) χ121)))))))))) ∧ (v1 = (30 : Int32) → (vp_in (x3 + (1 : Int32)) L) ∧ ((vp_in (x3 + (2 : Int32)) L) ∧ ((vp_in (x3 + (3 : Int32)) L) ∧ ((w_C_act (xs (x3 + (1 : Int32)).toNatClampNeg) (xs (x3 + (2 : Int32)).toNatClampNeg) (xs (x3 + (3 : Int32)).toNatClampNeg) χ (fun r122 χ123 => (vp_in (x3 + (1 : Int32)) L) ∧ ((vp_in (x3 + (2 : Int32)) L) ∧ ((vp_in (x3 + (3 : Int32)) L) ∧ ((w_M_act (xs (x3 + (1 : Int32)).toNatClampNeg) (xs (x3 + (2 : Int32)).toNatClampNeg) (xs (x3 + (3 : Int32)).toNatClampNeg) χ123 (fun r124 χ125 => ((r122 = r124 → (w_L_law_1393 xs L Q (w_L_law_18 xs L Q n) x3 χ125)) ∧ (¬ r122 = r124 → (Q (0 : Int32) χ125)))))))))))))) ∧ (v1 = (31 : Int32) → (vp_in (x3 + (1 : Int32)) L) ∧ ((w_C_trace (xs (x3 + (1 : Int32)).toNatClampNeg) χ (fun r126 χ127 => (vp_in (x3 + (1 : Int32)) L) ∧ ((w_M_trace (xs (x3 + (1 : Int32)).toNatClampNeg) χ127 (fun r128 χ129 => ((r126 = r128 → (w_L_law_1393 xs L Q (w_L_law_18 xs L Q n) x3 χ129)) ∧ (¬ r126 = r128 → (Q (0 : Int32) χ129)))))))))) ∧ (v1 = (32 : Int32) → (vp_in (x3 + (1 : Int32)) L) ∧ ((vp_in (x3 + (2 : Int32)) L) ∧ ((w_C_keep (xs (x3 + (1 : Int32)).toNatClampNeg) (xs (x3 + (2 : Int32)).toNatClampNeg) χ (fun r130 χ131 => (vp_in (x3 + (1 : Int32)) L) ∧ ((vp_in (x3 + (2 : Int32)) L) ∧ ((w_M_keep (xs (x3 + (1 : Int32)).toNatClampNeg) (xs (x3 + (2 : Int32)).toNatClampNeg) χ131 (fun r132 χ133 => ((r130 = r132 → (w_L_law_1393 xs L Q (w_L_law_18 xs L Q n) x3 χ133)) ∧ (¬ r130 = r132 → (Q (0 : Int32) χ133)))))))))))) ∧ (v1 = (33 : Int32) → (vp_in (x3 + (1 : Int32)) L) ∧ ((vp_in (x3 + (2 : Int32)) L) ∧ ((vp_in (x3 + (3 : Int32)) L) ∧ ((w_C_row (xs (x3 + (1 : Int32)).toNatClampNeg) (xs (x3 + (2 : Int32)).toNatClampNeg) (xs (x3 + (3 : Int32)).toNatClampNeg) χ (fun r134 χ135 => (vp_in (x3 + (1 : Int32)) L) ∧ ((vp_in (x3 + (2 : Int32)) L) ∧ ((vp_in (x3 + (3 : Int32)) L) ∧ ((w_M_row (xs (x3 + (1 : Int32)).toNatClampNeg) (xs (x3 + (2 : Int32)).toNatClampNeg) (xs (x3 + (3 : Int32)).toNatClampNeg) χ135 (fun r136 χ137 => ((r134 = r136 → (w_L_law_1393 xs L Q (w_L_law_18 xs L Q n) x3 χ137)) ∧ (¬ r134 = r136 → (Q (0 : Int32) χ137)))))))))))))) ∧ (v1 = (34 : Int32) → (vp_in (x3 + (1 : Int32)) L) ∧ ((vp_in (x3 + (2 : Int32)) L) ∧ ((vp_in (x3 + (3 : Int32)) L) ∧ ((vp_in (x3 + (4 : Int32)) L) ∧ ((w_C_put (xs (x3 + (1 : Int32)).toNatClampNeg) (xs (x3 + (2 : Int32)).toNatClampNeg) (((xs (x3 + (3 : Int32)).toNatClampNeg).toInt64 <<< ((32 : Int32).toInt64 &&& 63)) ||| ((xs (x3 + (4 : Int32)).toNatClampNeg).toInt64 &&& (4294967295 : Int64))) χ (fun r138 χ139 => (vp_in (x3 + (1 : Int32)) L) ∧ ((vp_in (x3 + (2 : Int32)) L) ∧ ((vp_in (x3 + (3 : Int32)) L) ∧ ((vp_in (x3 + (4 : Int32)) L) ∧ ((w_M_put (xs (x3 + (1 : Int32)).toNatClampNeg) (xs (x3 + (2 : Int32)).toNatClampNeg) (((xs (x3 + (3 : Int32)).toNatClampNeg).toInt64 <<< ((32 : Int32).toInt64 &&& 63)) ||| ((xs (x3 + (4 : Int32)).toNatClampNeg).toInt64 &&& (4294967295 : Int64))) χ139 (fun r140 χ141 => ((r138 = r140 → (w_L_law_1393 xs L Q (w_L_law_18 xs L Q n) x3 χ141)) ∧ (¬ r138 = r140 → (Q (0 : Int32) χ141)))))))))))))))) ∧ (v1 = (35 : Int32) → (vp_in (x3 + (1 : Int32)) L) ∧ ((vp_in (x3 + (2 : Int32)) L) ∧ ((w_C_element (xs (x3 + (1 : Int32)).toNatClampNeg) (xs (x3 + (2 : Int32)).toNatClampNeg) χ (fun r142 χ143 => (vp_in (x3 + (1 : Int32)) L) ∧ ((vp_in (x3 + (2 : Int32)) L) ∧ ((w_M_element (xs (x3 + (1 : Int32)).toNatClampNeg) (xs (x3 + (2 : Int32)).toNatClampNeg) χ143 (fun r144 χ145 => (((lg_cmp r142 r144) = 0 → (w_L_law_1393 xs L Q (w_L_law_18 xs L Q n) x3 χ145)) ∧ (¬ (lg_cmp r142 r144) = 0 → (Q (0 : Int32) χ145)))))))))))) ∧ (v1 = (36 : Int32) → (vp_in (x3 + (1 : Int32)) L) ∧ ((vp_in (x3 + (2 : Int32)) L) ∧ ((vp_in (x3 + (3 : Int32)) L) ∧ ((vp_in (x3 + (4 : Int32)) L) ∧ ((vp_in (x3 + (5 : Int32)) L) ∧ ((w_C_shift (xs (x3 + (1 : Int32)).toNatClampNeg) (xs (x3 + (2 : Int32)).toNatClampNeg) (xs (x3 + (3 : Int32)).toNatClampNeg) (xs (x3 + (4 : Int32)).toNatClampNeg) (xs (x3 + (5 : Int32)).toNatClampNeg) χ (fun r146 χ147 => (vp_in (x3 + (1 : Int32)) L) ∧ ((vp_in (x3 + (2 : Int32)) L) ∧ ((vp_in (x3 + (3 : Int32)) L) ∧ ((vp_in (x3 + (4 : Int32)) L) ∧ ((vp_in (x3 + (5 : Int32)) L) ∧ ((w_M_shift (xs (x3 + (1 : Int32)).toNatClampNeg) (xs (x3 + (2 : Int32)).toNatClampNeg) (xs (x3 + (3 : Int32)).toNatClampNeg) (xs (x3 + (4 : Int32)).toNatClampNeg) (xs (x3 + (5 : Int32)).toNatClampNeg) χ147 (fun r148 χ149 => ((r146 = r148 → (w_L_law_1393 xs L Q (w_L_law_18 xs L Q n) x3 χ149)) ∧ (¬ r146 = r148 → (Q (0 : Int32) χ149)))))))))))))))))) ∧ (v1 = (37 : Int32) → (vp_in (x3 + (1 : Int32)) L) ∧ ((vp_in (x3 + (2 : Int32)) L) ∧ ((w_C_taken (xs (x3 + (1 : Int32)).toNatClampNeg) (xs (x3 + (2 : Int32)).toNatClampNeg) χ (fun r150 χ151 => (vp_in (x3 + (1 : Int32)) L) ∧ ((vp_in (x3 + (2 : Int32)) L) ∧ ((w_M_taken (xs (x3 + (1 : Int32)).toNatClampNeg) (xs (x3 + (2 : Int32)).toNatClampNeg) χ151 (fun r152 χ153 => ((r150 = r152 → (w_L_law_1393 xs L Q (w_L_law_18 xs L Q n) x3 χ153)) ∧ (¬ r150 = r152 → (Q (0 : Int32) χ153)))))))))))) ∧ (v1 = (38 : Int32) → (vp_in (x3 + (1 : Int32)) L) ∧ ((w_C_count (xs (x3 + (1 : Int32)).toNatClampNeg) χ (fun r154 χ155 => (vp_in (x3 + (1 : Int32)) L) ∧ ((w_M_count (xs (x3 + (1 : Int32)).toNatClampNeg) χ155 (fun r156 χ157 => ((r154 = r156 → (w_L_law_1393 xs L Q (w_L_law_18 xs L Q n) x3 χ157)) ∧ (¬ r154 = r156 → (Q (0 : Int32) χ157)))))))))) ∧ (¬ v1 = (0 : Int32) → ¬ v1 = (1 : Int32) → ¬ v1 = (2 : Int32) → ¬ v1 = (3 : Int32) → ¬ v1 = (4 : Int32) → ¬ v1 = (5 : Int32) → ¬ v1 = (6 : Int32) → ¬ v1 = (7 : Int32) → ¬ v1 = (8 : Int32) → ¬ v1 = (9 : Int32) → ¬ v1 = (10 : Int32) → ¬ v1 = (11 : Int32) → ¬ v1 = (12 : Int32) → ¬ v1 = (13 : Int32) → ¬ v1 = (14 : Int32) → ¬ v1 = (15 : Int32) → ¬ v1 = (16 : Int32) → ¬ v1 = (17 : Int32) → ¬ v1 = (18 : Int32) → ¬ v1 = (19 : Int32) → ¬ v1 = (20 : Int32) → ¬ v1 = (21 : Int32) → ¬ v1 = (22 : Int32) → ¬ v1 = (23 : Int32) → ¬ v1 = (24 : Int32) → ¬ v1 = (25 : Int32) → ¬ v1 = (26 : Int32) → ¬ v1 = (27 : Int32) → ¬ v1 = (28 : Int32) → ¬ v1 = (29 : Int32) → ¬ v1 = (30 : Int32) → ¬ v1 = (31 : Int32) → ¬ v1 = (32 : Int32) → ¬ v1 = (33 : Int32) → ¬ v1 = (34 : Int32) → ¬ v1 = (35 : Int32) → ¬ v1 = (36 : Int32) → ¬ v1 = (37 : Int32) → ¬ v1 = (38 : Int32) → (w_L_law_1393 xs L Q (w_L_law_18 xs L Q n) x3 χ)))))))
def w_L_law (xs : Nat → Int32) (L : Nat) (χ : St) (Q : Int32 → St → Prop) : Prop := (∃ k18, w_L_law_18 xs L Q k18 (0 : Int32) χ)
set_option maxHeartbeats 4000000 in
theorem law_loop {X : Cx} {y0 : MethodName} {Pst : Option Value → (Nat → Nat → Nat) → St → Prop} (hX : Ok X cL_law "ChairOldLaw" ret y0 4 2048 94400 Pst) (hT : Th X) (hna : X.na = false) {b L : Nat} {xs : Nat → Int32} (hS : Scr X b L xs) (Q : Int32 → St → Prop)
    (hR : ∀ (v : Int32) (ad : Nat → Nat → Nat) (χ : St) (pc : Nat) (lv : List (Nat × Value)), decode cL_law pc = .ok (.ireturn, 1) → Q v χ → G X ad χ pc lv [.int v]) (ad : Nat → Nat → Nat) (χ : St) (hf : w_L_law xs L χ Q) : G X ad χ 16 [(2, .ref (ad 40 0)), (1, .ref (ad 0 0)), (0, .ref b)] [] := by
  have B1393 : ∀ (K18 : Int32 → St → Prop) (hK18 : ∀ (ad : Nat → Nat → Nat) (x3 : Int32) (χ : St), K18 x3 χ → G X ad χ 18 [(0, .ref b), (1, .ref (ad 0 0)), (2, .ref (ad 40 0)), (3, .int x3)] []) (ad : Nat → Nat → Nat) (x3 : Int32) (χ : St), w_L_law_1393 xs L Q K18 x3 χ → G X ad χ 1393 [(0, .ref b), (1, .ref (ad 0 0)), (2, .ref (ad 40 0)), (3, .int x3)] [] := by
    intro K18 hK18 ad x3 χ hf
    unfold w_L_law_1393 at hf
    refine g_iinc hX (v := _) 3 dL_law_1393 rfl rfl (by decide) rfl ?_
    refine g_goto hX 18 dL_law_1396 (by decide) ?_
    refine g_sub [1, 2, 3, 0] rfl ?_
    exact hK18 _ _ _ hf
  have B18 : ∀ (n : Nat) (ad : Nat → Nat → Nat) (x3 : Int32) (χ : St), w_L_law_18 xs L Q n x3 χ → G X ad χ 18 [(0, .ref b), (1, .ref (ad 0 0)), (2, .ref (ad 40 0)), (3, .int x3)] [] := by
    intro n
    induction n with
    | zero => intro ad x3 χ hf; exact hf.elim
    | succ n hK18 =>
      intro ad x3 χ hf
      unfold w_L_law_18 at hf
      refine g_iload_n hX 3 dL_law_18 rfl rfl ?_
      refine g_aload_n hX 0 dL_law_19 rfl rfl ?_
      refine g_slen hX hS dL_law_20 ?_
      refine g_bipush hX (v := (6 : Int32)) dL_law_21 rfl ?_
      refine g_isub hX dL_law_23 ?_
      refine g_icmp_gt hX 1399 dL_law_24 (by decide) (fun z => ?_) (fun z => ?_)
      · replace hf := hf.1 z
        refine g_iconst hX (v := (1 : Int32)) dL_law_1399 rfl ?_
        exact hR _ _ _ _ _ dL_law_1400 hf
      · replace hf := hf.2 z
        refine g_aload_n hX 0 dL_law_27 rfl rfl ?_
        refine g_iload_n hX 3 dL_law_28 rfl rfl ?_
        refine g_sld hX hS hf.1 dL_law_29 ?_
        replace hf := hf.2
        refine g_bipush hX (v := (63 : Int32)) dL_law_30 rfl ?_
        refine g_iand hX dL_law_32 ?_
        replace hf := hf _ rfl
        by_cases z0 : ((xs x3.toNatClampNeg) &&& (63 : Int32)) = (0 : Int32)
        · replace hf := hf.1 z0
          refine g_tableIn hX 204 dL_law_33 (by rw [z0]; decide) (by rw [z0]; decide) (by rw [z0] <;> rfl) (by decide) ?_
          refine g_aload_n hX 1 dL_law_204 rfl rfl ?_
          refine g_aload_n hX 0 dL_law_205 rfl rfl ?_
          refine g_iload_n hX 3 dL_law_206 rfl rfl ?_
          refine g_iconst hX (v := (1 : Int32)) dL_law_207 rfl ?_
          refine g_iadd hX dL_law_208 ?_
          refine g_sld hX hS hf.1 dL_law_209 ?_
          replace hf := hf.2
          refine g_callVAi hX hna (n := 1) (mt_C_part X.l X.Γ _ _ _ _) hf q277 q278 q279 q85 q280 ⟨rfl, hy_C_part⟩ (by decide) (fc0 _) ff0 rfl rfl rfl (Nat.le_of_ble_eq_true rfl) dL_law_210 (fun r2 ad3 χ3 hf hc3 => ?_)
          rw [← hc3.1 0 0 (fc0 _)]
          rw [← hc3.1 40 0 (fc40 _)]
          refine g_aload_n hX 2 dL_law_213 rfl rfl ?_
          refine g_aload_n hX 0 dL_law_214 rfl rfl ?_
          refine g_iload_n hX 3 dL_law_215 rfl rfl ?_
          refine g_iconst hX (v := (1 : Int32)) dL_law_216 rfl ?_
          refine g_iadd hX dL_law_217 ?_
          refine g_sld hX hS hf.1 dL_law_218 ?_
          replace hf := hf.2
          refine g_callVi hX (n := 1) (mt_M_part X.l X.Γ _ _ _ _) hf q1646 q1647 q1648 q89 q1649 ⟨rfl, hy_M_part⟩ (by decide) (fc40 _) ff40 rfl rfl rfl (Nat.le_of_ble_eq_true rfl) dL_law_219 (fun r4 χ5 hf hc5 => ?_)
          refine g_icmp_eq hX 1393 dL_law_222 (by decide) (fun z => ?_) (fun z => ?_)
          · replace hf := hf.1 z
            exact B1393 (w_L_law_18 xs L Q n) hK18 _ _ _ hf
          · replace hf := hf.2 z
            refine g_iconst hX (v := (0 : Int32)) dL_law_225 rfl ?_
            exact hR _ _ _ _ _ dL_law_226 hf
        replace hf := hf.2
        by_cases z1 : ((xs x3.toNatClampNeg) &&& (63 : Int32)) = (1 : Int32)
        · replace hf := hf.1 z1
          refine g_tableIn hX 227 dL_law_33 (by rw [z1]; decide) (by rw [z1]; decide) (by rw [z1] <;> rfl) (by decide) ?_
          refine g_aload_n hX 1 dL_law_227 rfl rfl ?_
          refine g_aload_n hX 0 dL_law_228 rfl rfl ?_
          refine g_iload_n hX 3 dL_law_229 rfl rfl ?_
          refine g_iconst hX (v := (1 : Int32)) dL_law_230 rfl ?_
          refine g_iadd hX dL_law_231 ?_
          refine g_sld hX hS hf.1 dL_law_232 ?_
          replace hf := hf.2
          refine g_aload_n hX 0 dL_law_233 rfl rfl ?_
          refine g_iload_n hX 3 dL_law_234 rfl rfl ?_
          refine g_iconst hX (v := (2 : Int32)) dL_law_235 rfl ?_
          refine g_iadd hX dL_law_236 ?_
          refine g_sld hX hS hf.1 dL_law_237 ?_
          replace hf := hf.2
          refine g_aload_n hX 0 dL_law_238 rfl rfl ?_
          refine g_iload_n hX 3 dL_law_239 rfl rfl ?_
          refine g_iconst hX (v := (3 : Int32)) dL_law_240 rfl ?_
          refine g_iadd hX dL_law_241 ?_
          refine g_sld hX hS hf.1 dL_law_242 ?_
          replace hf := hf.2
          refine g_callVWAi hX hna (n := 3) (mt_C_parts X.l hT.2 X.Γ _ _ _ _ _ _) hf q310 q311 q312 q85 q313 ⟨rfl, hy_C_parts⟩ (by decide) (fc0 _) ff0 rfl rfl rfl (Nat.le_of_ble_eq_true rfl) dL_law_243 (fun r6 ad7 χ7 hf hc7 => ?_)
          rw [← hc7.1 0 0 (fc0 _)]
          rw [← hc7.1 40 0 (fc40 _)]
          refine g_aload_n hX 2 dL_law_246 rfl rfl ?_
          refine g_aload_n hX 0 dL_law_247 rfl rfl ?_
          refine g_iload_n hX 3 dL_law_248 rfl rfl ?_
          refine g_iconst hX (v := (1 : Int32)) dL_law_249 rfl ?_
          refine g_iadd hX dL_law_250 ?_
          refine g_sld hX hS hf.1 dL_law_251 ?_
          replace hf := hf.2
          refine g_aload_n hX 0 dL_law_252 rfl rfl ?_
          refine g_iload_n hX 3 dL_law_253 rfl rfl ?_
          refine g_iconst hX (v := (2 : Int32)) dL_law_254 rfl ?_
          refine g_iadd hX dL_law_255 ?_
          refine g_sld hX hS hf.1 dL_law_256 ?_
          replace hf := hf.2
          refine g_aload_n hX 0 dL_law_257 rfl rfl ?_
          refine g_iload_n hX 3 dL_law_258 rfl rfl ?_
          refine g_iconst hX (v := (3 : Int32)) dL_law_259 rfl ?_
          refine g_iadd hX dL_law_260 ?_
          refine g_sld hX hS hf.1 dL_law_261 ?_
          replace hf := hf.2
          refine g_callVi hX (n := 3) (mt_M_parts X.l X.Γ _ _ _ _ _ _) hf q1658 q1659 q1660 q89 q1661 ⟨rfl, hy_M_parts⟩ (by decide) (fc40 _) ff40 rfl rfl rfl (Nat.le_of_ble_eq_true rfl) dL_law_262 (fun r8 χ9 hf hc9 => ?_)
          refine g_icmp_eq hX 1393 dL_law_265 (by decide) (fun z => ?_) (fun z => ?_)
          · replace hf := hf.1 z
            exact B1393 (w_L_law_18 xs L Q n) hK18 _ _ _ hf
          · replace hf := hf.2 z
            refine g_iconst hX (v := (0 : Int32)) dL_law_268 rfl ?_
            exact hR _ _ _ _ _ dL_law_269 hf
        replace hf := hf.2
        by_cases z2 : ((xs x3.toNatClampNeg) &&& (63 : Int32)) = (2 : Int32)
        · replace hf := hf.1 z2
          refine g_tableIn hX 270 dL_law_33 (by rw [z2]; decide) (by rw [z2]; decide) (by rw [z2] <;> rfl) (by decide) ?_
          refine g_aload_n hX 1 dL_law_270 rfl rfl ?_
          refine g_aload_n hX 0 dL_law_271 rfl rfl ?_
          refine g_iload_n hX 3 dL_law_272 rfl rfl ?_
          refine g_iconst hX (v := (1 : Int32)) dL_law_273 rfl ?_
          refine g_iadd hX dL_law_274 ?_
          refine g_sld hX hS hf.1 dL_law_275 ?_
          replace hf := hf.2
          refine g_aload_n hX 0 dL_law_276 rfl rfl ?_
          refine g_iload_n hX 3 dL_law_277 rfl rfl ?_
          refine g_iconst hX (v := (2 : Int32)) dL_law_278 rfl ?_
          refine g_iadd hX dL_law_279 ?_
          refine g_sld hX hS hf.1 dL_law_280 ?_
          replace hf := hf.2
          refine g_aload_n hX 0 dL_law_281 rfl rfl ?_
          refine g_iload_n hX 3 dL_law_282 rfl rfl ?_
          refine g_iconst hX (v := (3 : Int32)) dL_law_283 rfl ?_
          refine g_iadd hX dL_law_284 ?_
          refine g_sld hX hS hf.1 dL_law_285 ?_
          replace hf := hf.2
          refine g_callVAi hX hna (n := 3) (mt_C_mend X.l X.Γ _ _ _ _ _ _) hf q484 q485 q486 q85 q487 ⟨rfl, hy_C_mend⟩ (by decide) (fc0 _) ff0 rfl rfl rfl (Nat.le_of_ble_eq_true rfl) dL_law_286 (fun r10 ad11 χ11 hf hc11 => ?_)
          rw [← hc11.1 0 0 (fc0 _)]
          rw [← hc11.1 40 0 (fc40 _)]
          refine g_aload_n hX 2 dL_law_289 rfl rfl ?_
          refine g_aload_n hX 0 dL_law_290 rfl rfl ?_
          refine g_iload_n hX 3 dL_law_291 rfl rfl ?_
          refine g_iconst hX (v := (1 : Int32)) dL_law_292 rfl ?_
          refine g_iadd hX dL_law_293 ?_
          refine g_sld hX hS hf.1 dL_law_294 ?_
          replace hf := hf.2
          refine g_aload_n hX 0 dL_law_295 rfl rfl ?_
          refine g_iload_n hX 3 dL_law_296 rfl rfl ?_
          refine g_iconst hX (v := (2 : Int32)) dL_law_297 rfl ?_
          refine g_iadd hX dL_law_298 ?_
          refine g_sld hX hS hf.1 dL_law_299 ?_
          replace hf := hf.2
          refine g_aload_n hX 0 dL_law_300 rfl rfl ?_
          refine g_iload_n hX 3 dL_law_301 rfl rfl ?_
          refine g_iconst hX (v := (3 : Int32)) dL_law_302 rfl ?_
          refine g_iadd hX dL_law_303 ?_
          refine g_sld hX hS hf.1 dL_law_304 ?_
          replace hf := hf.2
          refine g_callVi hX (n := 3) (mt_M_mend X.l X.Γ _ _ _ _ _ _) hf q1668 q1669 q1670 q89 q1671 ⟨rfl, hy_M_mend⟩ (by decide) (fc40 _) ff40 rfl rfl rfl (Nat.le_of_ble_eq_true rfl) dL_law_305 (fun r12 χ13 hf hc13 => ?_)
          refine g_icmp_eq hX 1393 dL_law_308 (by decide) (fun z => ?_) (fun z => ?_)
          · replace hf := hf.1 z
            exact B1393 (w_L_law_18 xs L Q n) hK18 _ _ _ hf
          · replace hf := hf.2 z
            refine g_iconst hX (v := (0 : Int32)) dL_law_311 rfl ?_
            exact hR _ _ _ _ _ dL_law_312 hf
        replace hf := hf.2
        by_cases z3 : ((xs x3.toNatClampNeg) &&& (63 : Int32)) = (3 : Int32)
        · replace hf := hf.1 z3
          refine g_tableIn hX 313 dL_law_33 (by rw [z3]; decide) (by rw [z3]; decide) (by rw [z3] <;> rfl) (by decide) ?_
          refine g_aload_n hX 1 dL_law_313 rfl rfl ?_
          refine g_aload_n hX 0 dL_law_314 rfl rfl ?_
          refine g_iload_n hX 3 dL_law_315 rfl rfl ?_
          refine g_iconst hX (v := (1 : Int32)) dL_law_316 rfl ?_
          refine g_iadd hX dL_law_317 ?_
          refine g_sld hX hS hf.1 dL_law_318 ?_
          replace hf := hf.2
          refine g_aload_n hX 0 dL_law_319 rfl rfl ?_
          refine g_iload_n hX 3 dL_law_320 rfl rfl ?_
          refine g_iconst hX (v := (2 : Int32)) dL_law_321 rfl ?_
          refine g_iadd hX dL_law_322 ?_
          refine g_sld hX hS hf.1 dL_law_323 ?_
          replace hf := hf.2
          refine g_callVi hX (n := 2) (mt_C_find X.l X.Γ _ _ _ _ _) hf q450 q451 q452 q85 q453 ⟨rfl, hy_C_find⟩ (by decide) (fc0 _) ff0 rfl rfl rfl (Nat.le_of_ble_eq_true rfl) dL_law_324 (fun r14 χ15 hf hc15 => ?_)
          refine g_aload_n hX 2 dL_law_327 rfl rfl ?_
          refine g_aload_n hX 0 dL_law_328 rfl rfl ?_
          refine g_iload_n hX 3 dL_law_329 rfl rfl ?_
          refine g_iconst hX (v := (1 : Int32)) dL_law_330 rfl ?_
          refine g_iadd hX dL_law_331 ?_
          refine g_sld hX hS hf.1 dL_law_332 ?_
          replace hf := hf.2
          refine g_aload_n hX 0 dL_law_333 rfl rfl ?_
          refine g_iload_n hX 3 dL_law_334 rfl rfl ?_
          refine g_iconst hX (v := (2 : Int32)) dL_law_335 rfl ?_
          refine g_iadd hX dL_law_336 ?_
          refine g_sld hX hS hf.1 dL_law_337 ?_
          replace hf := hf.2
          refine g_callVi hX (n := 2) (mt_M_find X.l X.Γ _ _ _ _ _) hf q1682 q1683 q1684 q89 q1685 ⟨rfl, hy_M_find⟩ (by decide) (fc40 _) ff40 rfl rfl rfl (Nat.le_of_ble_eq_true rfl) dL_law_338 (fun r16 χ17 hf hc17 => ?_)
          refine g_icmp_eq hX 1393 dL_law_341 (by decide) (fun z => ?_) (fun z => ?_)
          · replace hf := hf.1 z
            exact B1393 (w_L_law_18 xs L Q n) hK18 _ _ _ hf
          · replace hf := hf.2 z
            refine g_iconst hX (v := (0 : Int32)) dL_law_344 rfl ?_
            exact hR _ _ _ _ _ dL_law_345 hf
        replace hf := hf.2
        by_cases z4 : ((xs x3.toNatClampNeg) &&& (63 : Int32)) = (4 : Int32)
        · replace hf := hf.1 z4
          refine g_tableIn hX 346 dL_law_33 (by rw [z4]; decide) (by rw [z4]; decide) (by rw [z4] <;> rfl) (by decide) ?_
          refine g_aload_n hX 1 dL_law_346 rfl rfl ?_
          refine g_aload_n hX 0 dL_law_347 rfl rfl ?_
          refine g_iload_n hX 3 dL_law_348 rfl rfl ?_
          refine g_iconst hX (v := (1 : Int32)) dL_law_349 rfl ?_
          refine g_iadd hX dL_law_350 ?_
          refine g_sld hX hS hf.1 dL_law_351 ?_
          replace hf := hf.2
          refine g_aload_n hX 0 dL_law_352 rfl rfl ?_
          refine g_iload_n hX 3 dL_law_353 rfl rfl ?_
          refine g_iconst hX (v := (2 : Int32)) dL_law_354 rfl ?_
          refine g_iadd hX dL_law_355 ?_
          refine g_sld hX hS hf.1 dL_law_356 ?_
          replace hf := hf.2
          refine g_callVi hX (n := 2) (mt_C_of X.l X.Γ _ _ _ _ _) hf q465 q466 q467 q85 q468 ⟨rfl, hy_C_of⟩ (by decide) (fc0 _) ff0 rfl rfl rfl (Nat.le_of_ble_eq_true rfl) dL_law_357 (fun r18 χ19 hf hc19 => ?_)
          refine g_aload_n hX 2 dL_law_360 rfl rfl ?_
          refine g_aload_n hX 0 dL_law_361 rfl rfl ?_
          refine g_iload_n hX 3 dL_law_362 rfl rfl ?_
          refine g_iconst hX (v := (1 : Int32)) dL_law_363 rfl ?_
          refine g_iadd hX dL_law_364 ?_
          refine g_sld hX hS hf.1 dL_law_365 ?_
          replace hf := hf.2
          refine g_aload_n hX 0 dL_law_366 rfl rfl ?_
          refine g_iload_n hX 3 dL_law_367 rfl rfl ?_
          refine g_iconst hX (v := (2 : Int32)) dL_law_368 rfl ?_
          refine g_iadd hX dL_law_369 ?_
          refine g_sld hX hS hf.1 dL_law_370 ?_
          replace hf := hf.2
          refine g_callVi hX (n := 2) (mt_M_of X.l X.Γ _ _ _ _ _) hf q1695 q1696 q1697 q89 q1698 ⟨rfl, hy_M_of⟩ (by decide) (fc40 _) ff40 rfl rfl rfl (Nat.le_of_ble_eq_true rfl) dL_law_371 (fun r20 χ21 hf hc21 => ?_)
          refine g_icmp_eq hX 1393 dL_law_374 (by decide) (fun z => ?_) (fun z => ?_)
          · replace hf := hf.1 z
            exact B1393 (w_L_law_18 xs L Q n) hK18 _ _ _ hf
          · replace hf := hf.2 z
            refine g_iconst hX (v := (0 : Int32)) dL_law_377 rfl ?_
            exact hR _ _ _ _ _ dL_law_378 hf
        replace hf := hf.2
        by_cases z5 : ((xs x3.toNatClampNeg) &&& (63 : Int32)) = (5 : Int32)
        · replace hf := hf.1 z5
          refine g_tableIn hX 379 dL_law_33 (by rw [z5]; decide) (by rw [z5]; decide) (by rw [z5] <;> rfl) (by decide) ?_
          refine g_aload_n hX 1 dL_law_379 rfl rfl ?_
          refine g_aload_n hX 0 dL_law_380 rfl rfl ?_
          refine g_iload_n hX 3 dL_law_381 rfl rfl ?_
          refine g_iconst hX (v := (1 : Int32)) dL_law_382 rfl ?_
          refine g_iadd hX dL_law_383 ?_
          refine g_sld hX hS hf.1 dL_law_384 ?_
          replace hf := hf.2
          refine g_callVi hX (n := 1) (mt_C_feed X.l X.Γ _ _ _ _) hf q514 q515 q516 q85 q517 ⟨rfl, hy_C_feed⟩ (by decide) (fc0 _) ff0 rfl rfl rfl (Nat.le_of_ble_eq_true rfl) dL_law_385 (fun r22 χ23 hf hc23 => ?_)
          refine g_aload_n hX 2 dL_law_388 rfl rfl ?_
          refine g_aload_n hX 0 dL_law_389 rfl rfl ?_
          refine g_iload_n hX 3 dL_law_390 rfl rfl ?_
          refine g_iconst hX (v := (1 : Int32)) dL_law_391 rfl ?_
          refine g_iadd hX dL_law_392 ?_
          refine g_sld hX hS hf.1 dL_law_393 ?_
          replace hf := hf.2
          refine g_callVi hX (n := 1) (mt_M_feed X.l X.Γ _ _ _ _) hf q1705 q1706 q1707 q89 q1708 ⟨rfl, hy_M_feed⟩ (by decide) (fc40 _) ff40 rfl rfl rfl (Nat.le_of_ble_eq_true rfl) dL_law_394 (fun r24 χ25 hf hc25 => ?_)
          refine g_icmp_eq hX 1393 dL_law_397 (by decide) (fun z => ?_) (fun z => ?_)
          · replace hf := hf.1 z
            exact B1393 (w_L_law_18 xs L Q n) hK18 _ _ _ hf
          · replace hf := hf.2 z
            refine g_iconst hX (v := (0 : Int32)) dL_law_400 rfl ?_
            exact hR _ _ _ _ _ dL_law_401 hf
        replace hf := hf.2
        by_cases z6 : ((xs x3.toNatClampNeg) &&& (63 : Int32)) = (6 : Int32)
        · replace hf := hf.1 z6
          refine g_tableIn hX 402 dL_law_33 (by rw [z6]; decide) (by rw [z6]; decide) (by rw [z6] <;> rfl) (by decide) ?_
          refine g_aload_n hX 1 dL_law_402 rfl rfl ?_
          refine g_aload_n hX 0 dL_law_403 rfl rfl ?_
          refine g_iload_n hX 3 dL_law_404 rfl rfl ?_
          refine g_iconst hX (v := (1 : Int32)) dL_law_405 rfl ?_
          refine g_iadd hX dL_law_406 ?_
          refine g_sld hX hS hf.1 dL_law_407 ?_
          replace hf := hf.2
          refine g_callVAi hX hna (n := 1) (mt_C_law X.l X.Γ _ _ _ _) hf q518 q519 q520 q85 q521 ⟨rfl, hy_C_law⟩ (by decide) (fc0 _) ff0 rfl rfl rfl (Nat.le_of_ble_eq_true rfl) dL_law_408 (fun r26 ad27 χ27 hf hc27 => ?_)
          rw [← hc27.1 0 0 (fc0 _)]
          rw [← hc27.1 40 0 (fc40 _)]
          refine g_aload_n hX 2 dL_law_411 rfl rfl ?_
          refine g_aload_n hX 0 dL_law_412 rfl rfl ?_
          refine g_iload_n hX 3 dL_law_413 rfl rfl ?_
          refine g_iconst hX (v := (1 : Int32)) dL_law_414 rfl ?_
          refine g_iadd hX dL_law_415 ?_
          refine g_sld hX hS hf.1 dL_law_416 ?_
          replace hf := hf.2
          refine g_callVi hX (n := 1) (mt_M_law X.l X.Γ _ _ _ _) hf q1710 q1711 q1712 q89 q1713 ⟨rfl, hy_M_law⟩ (by decide) (fc40 _) ff40 rfl rfl rfl (Nat.le_of_ble_eq_true rfl) dL_law_417 (fun r28 χ29 hf hc29 => ?_)
          refine g_icmp_eq hX 1393 dL_law_420 (by decide) (fun z => ?_) (fun z => ?_)
          · replace hf := hf.1 z
            exact B1393 (w_L_law_18 xs L Q n) hK18 _ _ _ hf
          · replace hf := hf.2 z
            refine g_iconst hX (v := (0 : Int32)) dL_law_423 rfl ?_
            exact hR _ _ _ _ _ dL_law_424 hf
        replace hf := hf.2
        by_cases z7 : ((xs x3.toNatClampNeg) &&& (63 : Int32)) = (7 : Int32)
        · replace hf := hf.1 z7
          refine g_tableIn hX 425 dL_law_33 (by rw [z7]; decide) (by rw [z7]; decide) (by rw [z7] <;> rfl) (by decide) ?_
          refine g_aload_n hX 1 dL_law_425 rfl rfl ?_
          refine g_aload_n hX 0 dL_law_426 rfl rfl ?_
          refine g_iload_n hX 3 dL_law_427 rfl rfl ?_
          refine g_iconst hX (v := (1 : Int32)) dL_law_428 rfl ?_
          refine g_iadd hX dL_law_429 ?_
          refine g_sld hX hS hf.1 dL_law_430 ?_
          replace hf := hf.2
          refine g_aload_n hX 0 dL_law_431 rfl rfl ?_
          refine g_iload_n hX 3 dL_law_432 rfl rfl ?_
          refine g_iconst hX (v := (2 : Int32)) dL_law_433 rfl ?_
          refine g_iadd hX dL_law_434 ?_
          refine g_sld hX hS hf.1 dL_law_435 ?_
          replace hf := hf.2
          refine g_callVi hX (n := 2) (mt_C_number X.l X.Γ _ _ _ _ _) hf q763 q764 q765 q85 q766 ⟨rfl, hy_C_number⟩ (by decide) (fc0 _) ff0 rfl rfl rfl (Nat.le_of_ble_eq_true rfl) dL_law_436 (fun r30 χ31 hf hc31 => ?_)
          refine g_aload_n hX 2 dL_law_439 rfl rfl ?_
          refine g_aload_n hX 0 dL_law_440 rfl rfl ?_
          refine g_iload_n hX 3 dL_law_441 rfl rfl ?_
          refine g_iconst hX (v := (1 : Int32)) dL_law_442 rfl ?_
          refine g_iadd hX dL_law_443 ?_
          refine g_sld hX hS hf.1 dL_law_444 ?_
          replace hf := hf.2
          refine g_aload_n hX 0 dL_law_445 rfl rfl ?_
          refine g_iload_n hX 3 dL_law_446 rfl rfl ?_
          refine g_iconst hX (v := (2 : Int32)) dL_law_447 rfl ?_
          refine g_iadd hX dL_law_448 ?_
          refine g_sld hX hS hf.1 dL_law_449 ?_
          replace hf := hf.2
          refine g_callVi hX (n := 2) (mt_M_number X.l X.Γ _ _ _ _ _) hf q1757 q1758 q1759 q89 q1760 ⟨rfl, hy_M_number⟩ (by decide) (fc40 _) ff40 rfl rfl rfl (Nat.le_of_ble_eq_true rfl) dL_law_450 (fun r32 χ33 hf hc33 => ?_)
          refine g_icmp_eq hX 1393 dL_law_453 (by decide) (fun z => ?_) (fun z => ?_)
          · replace hf := hf.1 z
            exact B1393 (w_L_law_18 xs L Q n) hK18 _ _ _ hf
          · replace hf := hf.2 z
            refine g_iconst hX (v := (0 : Int32)) dL_law_456 rfl ?_
            exact hR _ _ _ _ _ dL_law_457 hf
        replace hf := hf.2
        by_cases z8 : ((xs x3.toNatClampNeg) &&& (63 : Int32)) = (8 : Int32)
        · replace hf := hf.1 z8
          refine g_tableIn hX 458 dL_law_33 (by rw [z8]; decide) (by rw [z8]; decide) (by rw [z8] <;> rfl) (by decide) ?_
          refine g_aload_n hX 1 dL_law_458 rfl rfl ?_
          refine g_aload_n hX 0 dL_law_459 rfl rfl ?_
          refine g_iload_n hX 3 dL_law_460 rfl rfl ?_
          refine g_iconst hX (v := (1 : Int32)) dL_law_461 rfl ?_
          refine g_iadd hX dL_law_462 ?_
          refine g_sld hX hS hf.1 dL_law_463 ?_
          replace hf := hf.2
          refine g_aload_n hX 0 dL_law_464 rfl rfl ?_
          refine g_iload_n hX 3 dL_law_465 rfl rfl ?_
          refine g_iconst hX (v := (2 : Int32)) dL_law_466 rfl ?_
          refine g_iadd hX dL_law_467 ?_
          refine g_sld hX hS hf.1 dL_law_468 ?_
          replace hf := hf.2
          refine g_callVl hX (n := 2) (mt_C_likely X.l X.Γ _ _ _ _ _) hf q807 q808 q809 q85 q810 ⟨rfl, hy_C_likely⟩ (by decide) (fc0 _) ff0 rfl rfl rfl (Nat.le_of_ble_eq_true rfl) dL_law_469 (fun r34 χ35 hf hc35 => ?_)
          refine g_aload_n hX 2 dL_law_472 rfl rfl ?_
          refine g_aload_n hX 0 dL_law_473 rfl rfl ?_
          refine g_iload_n hX 3 dL_law_474 rfl rfl ?_
          refine g_iconst hX (v := (1 : Int32)) dL_law_475 rfl ?_
          refine g_iadd hX dL_law_476 ?_
          refine g_sld hX hS hf.1 dL_law_477 ?_
          replace hf := hf.2
          refine g_aload_n hX 0 dL_law_478 rfl rfl ?_
          refine g_iload_n hX 3 dL_law_479 rfl rfl ?_
          refine g_iconst hX (v := (2 : Int32)) dL_law_480 rfl ?_
          refine g_iadd hX dL_law_481 ?_
          refine g_sld hX hS hf.1 dL_law_482 ?_
          replace hf := hf.2
          refine g_callVl hX (n := 2) (mt_M_likely X.l X.Γ _ _ _ _ _) hf q1765 q1766 q1767 q89 q1768 ⟨rfl, hy_M_likely⟩ (by decide) (fc40 _) ff40 rfl rfl rfl (Nat.le_of_ble_eq_true rfl) dL_law_483 (fun r36 χ37 hf hc37 => ?_)
          refine g_lcmp hX dL_law_486 ?_
          refine g_if_eq hX 1393 dL_law_487 (by decide) (fun z => ?_) (fun z => ?_)
          · replace hf := hf.1 z
            exact B1393 (w_L_law_18 xs L Q n) hK18 _ _ _ hf
          · replace hf := hf.2 z
            refine g_iconst hX (v := (0 : Int32)) dL_law_490 rfl ?_
            exact hR _ _ _ _ _ dL_law_491 hf
        replace hf := hf.2
        by_cases z9 : ((xs x3.toNatClampNeg) &&& (63 : Int32)) = (9 : Int32)
        · replace hf := hf.1 z9
          refine g_tableIn hX 492 dL_law_33 (by rw [z9]; decide) (by rw [z9]; decide) (by rw [z9] <;> rfl) (by decide) ?_
          refine g_aload_n hX 1 dL_law_492 rfl rfl ?_
          refine g_aload_n hX 0 dL_law_493 rfl rfl ?_
          refine g_iload_n hX 3 dL_law_494 rfl rfl ?_
          refine g_iconst hX (v := (1 : Int32)) dL_law_495 rfl ?_
          refine g_iadd hX dL_law_496 ?_
          refine g_sld hX hS hf.1 dL_law_497 ?_
          replace hf := hf.2
          refine g_callVi hX (n := 1) (mt_C_percent X.l X.Γ _ _ _ _) hf q835 q836 q837 q85 q838 ⟨rfl, hy_C_percent⟩ (by decide) (fc0 _) ff0 rfl rfl rfl (Nat.le_of_ble_eq_true rfl) dL_law_498 (fun r38 χ39 hf hc39 => ?_)
          refine g_aload_n hX 2 dL_law_501 rfl rfl ?_
          refine g_aload_n hX 0 dL_law_502 rfl rfl ?_
          refine g_iload_n hX 3 dL_law_503 rfl rfl ?_
          refine g_iconst hX (v := (1 : Int32)) dL_law_504 rfl ?_
          refine g_iadd hX dL_law_505 ?_
          refine g_sld hX hS hf.1 dL_law_506 ?_
          replace hf := hf.2
          refine g_callVi hX (n := 1) (mt_M_percent X.l X.Γ _ _ _ _) hf q1790 q1791 q1792 q89 q1793 ⟨rfl, hy_M_percent⟩ (by decide) (fc40 _) ff40 rfl rfl rfl (Nat.le_of_ble_eq_true rfl) dL_law_507 (fun r40 χ41 hf hc41 => ?_)
          refine g_icmp_eq hX 1393 dL_law_510 (by decide) (fun z => ?_) (fun z => ?_)
          · replace hf := hf.1 z
            exact B1393 (w_L_law_18 xs L Q n) hK18 _ _ _ hf
          · replace hf := hf.2 z
            refine g_iconst hX (v := (0 : Int32)) dL_law_513 rfl ?_
            exact hR _ _ _ _ _ dL_law_514 hf
        replace hf := hf.2
        by_cases z10 : ((xs x3.toNatClampNeg) &&& (63 : Int32)) = (10 : Int32)
        · replace hf := hf.1 z10
          refine g_tableIn hX 515 dL_law_33 (by rw [z10]; decide) (by rw [z10]; decide) (by rw [z10] <;> rfl) (by decide) ?_
          refine g_aload_n hX 1 dL_law_515 rfl rfl ?_
          refine g_aload_n hX 0 dL_law_516 rfl rfl ?_
          refine g_iload_n hX 3 dL_law_517 rfl rfl ?_
          refine g_iconst hX (v := (1 : Int32)) dL_law_518 rfl ?_
          refine g_iadd hX dL_law_519 ?_
          refine g_sld hX hS hf.1 dL_law_520 ?_
          replace hf := hf.2
          refine g_callVi hX (n := 1) (mt_C_likeliest X.l X.Γ _ _ _ _) hf q844 q845 q846 q85 q847 ⟨rfl, hy_C_likeliest⟩ (by decide) (fc0 _) ff0 rfl rfl rfl (Nat.le_of_ble_eq_true rfl) dL_law_521 (fun r42 χ43 hf hc43 => ?_)
          refine g_aload_n hX 2 dL_law_524 rfl rfl ?_
          refine g_aload_n hX 0 dL_law_525 rfl rfl ?_
          refine g_iload_n hX 3 dL_law_526 rfl rfl ?_
          refine g_iconst hX (v := (1 : Int32)) dL_law_527 rfl ?_
          refine g_iadd hX dL_law_528 ?_
          refine g_sld hX hS hf.1 dL_law_529 ?_
          replace hf := hf.2
          refine g_callVi hX (n := 1) (mt_M_likeliest X.l X.Γ _ _ _ _) hf q1798 q1799 q1800 q89 q1801 ⟨rfl, hy_M_likeliest⟩ (by decide) (fc40 _) ff40 rfl rfl rfl (Nat.le_of_ble_eq_true rfl) dL_law_530 (fun r44 χ45 hf hc45 => ?_)
          refine g_icmp_eq hX 1393 dL_law_533 (by decide) (fun z => ?_) (fun z => ?_)
          · replace hf := hf.1 z
            exact B1393 (w_L_law_18 xs L Q n) hK18 _ _ _ hf
          · replace hf := hf.2 z
            refine g_iconst hX (v := (0 : Int32)) dL_law_536 rfl ?_
            exact hR _ _ _ _ _ dL_law_537 hf
        replace hf := hf.2
        by_cases z11 : ((xs x3.toNatClampNeg) &&& (63 : Int32)) = (11 : Int32)
        · replace hf := hf.1 z11
          refine g_tableIn hX 538 dL_law_33 (by rw [z11]; decide) (by rw [z11]; decide) (by rw [z11] <;> rfl) (by decide) ?_
          refine g_aload_n hX 1 dL_law_538 rfl rfl ?_
          refine g_aload_n hX 0 dL_law_539 rfl rfl ?_
          refine g_iload_n hX 3 dL_law_540 rfl rfl ?_
          refine g_iconst hX (v := (1 : Int32)) dL_law_541 rfl ?_
          refine g_iadd hX dL_law_542 ?_
          refine g_sld hX hS hf.1 dL_law_543 ?_
          replace hf := hf.2
          refine g_aload_n hX 0 dL_law_544 rfl rfl ?_
          refine g_iload_n hX 3 dL_law_545 rfl rfl ?_
          refine g_iconst hX (v := (2 : Int32)) dL_law_546 rfl ?_
          refine g_iadd hX dL_law_547 ?_
          refine g_sld hX hS hf.1 dL_law_548 ?_
          replace hf := hf.2
          refine g_callVi hX (n := 2) (mt_C_when X.l X.Γ _ _ _ _ _) hf q852 q853 q854 q85 q855 ⟨rfl, hy_C_when⟩ (by decide) (fc0 _) ff0 rfl rfl rfl (Nat.le_of_ble_eq_true rfl) dL_law_549 (fun r46 χ47 hf hc47 => ?_)
          refine g_aload_n hX 2 dL_law_552 rfl rfl ?_
          refine g_aload_n hX 0 dL_law_553 rfl rfl ?_
          refine g_iload_n hX 3 dL_law_554 rfl rfl ?_
          refine g_iconst hX (v := (1 : Int32)) dL_law_555 rfl ?_
          refine g_iadd hX dL_law_556 ?_
          refine g_sld hX hS hf.1 dL_law_557 ?_
          replace hf := hf.2
          refine g_aload_n hX 0 dL_law_558 rfl rfl ?_
          refine g_iload_n hX 3 dL_law_559 rfl rfl ?_
          refine g_iconst hX (v := (2 : Int32)) dL_law_560 rfl ?_
          refine g_iadd hX dL_law_561 ?_
          refine g_sld hX hS hf.1 dL_law_562 ?_
          replace hf := hf.2
          refine g_callVi hX (n := 2) (mt_M_when X.l X.Γ _ _ _ _ _) hf q1806 q1807 q1808 q89 q1809 ⟨rfl, hy_M_when⟩ (by decide) (fc40 _) ff40 rfl rfl rfl (Nat.le_of_ble_eq_true rfl) dL_law_563 (fun r48 χ49 hf hc49 => ?_)
          refine g_icmp_eq hX 1393 dL_law_566 (by decide) (fun z => ?_) (fun z => ?_)
          · replace hf := hf.1 z
            exact B1393 (w_L_law_18 xs L Q n) hK18 _ _ _ hf
          · replace hf := hf.2 z
            refine g_iconst hX (v := (0 : Int32)) dL_law_569 rfl ?_
            exact hR _ _ _ _ _ dL_law_570 hf
        replace hf := hf.2
        by_cases z12 : ((xs x3.toNatClampNeg) &&& (63 : Int32)) = (12 : Int32)
        · replace hf := hf.1 z12
          refine g_tableIn hX 571 dL_law_33 (by rw [z12]; decide) (by rw [z12]; decide) (by rw [z12] <;> rfl) (by decide) ?_
          refine g_aload_n hX 1 dL_law_571 rfl rfl ?_
          refine g_aload_n hX 0 dL_law_572 rfl rfl ?_
          refine g_iload_n hX 3 dL_law_573 rfl rfl ?_
          refine g_iconst hX (v := (1 : Int32)) dL_law_574 rfl ?_
          refine g_iadd hX dL_law_575 ?_
          refine g_sld hX hS hf.1 dL_law_576 ?_
          replace hf := hf.2
          refine g_callVi hX (n := 1) (mt_C_whole X.l X.Γ _ _ _ _) hf q860 q861 q862 q85 q863 ⟨rfl, hy_C_whole⟩ (by decide) (fc0 _) ff0 rfl rfl rfl (Nat.le_of_ble_eq_true rfl) dL_law_577 (fun r50 χ51 hf hc51 => ?_)
          refine g_aload_n hX 2 dL_law_580 rfl rfl ?_
          refine g_aload_n hX 0 dL_law_581 rfl rfl ?_
          refine g_iload_n hX 3 dL_law_582 rfl rfl ?_
          refine g_iconst hX (v := (1 : Int32)) dL_law_583 rfl ?_
          refine g_iadd hX dL_law_584 ?_
          refine g_sld hX hS hf.1 dL_law_585 ?_
          replace hf := hf.2
          refine g_callVi hX (n := 1) (mt_M_whole X.l X.Γ _ _ _ _) hf q1814 q1815 q1816 q89 q1817 ⟨rfl, hy_M_whole⟩ (by decide) (fc40 _) ff40 rfl rfl rfl (Nat.le_of_ble_eq_true rfl) dL_law_586 (fun r52 χ53 hf hc53 => ?_)
          refine g_icmp_eq hX 1393 dL_law_589 (by decide) (fun z => ?_) (fun z => ?_)
          · replace hf := hf.1 z
            exact B1393 (w_L_law_18 xs L Q n) hK18 _ _ _ hf
          · replace hf := hf.2 z
            refine g_iconst hX (v := (0 : Int32)) dL_law_592 rfl ?_
            exact hR _ _ _ _ _ dL_law_593 hf
        replace hf := hf.2
        by_cases z13 : ((xs x3.toNatClampNeg) &&& (63 : Int32)) = (13 : Int32)
        · replace hf := hf.1 z13
          refine g_tableIn hX 594 dL_law_33 (by rw [z13]; decide) (by rw [z13]; decide) (by rw [z13] <;> rfl) (by decide) ?_
          refine g_aload_n hX 1 dL_law_594 rfl rfl ?_
          refine g_callVi hX (n := 0) (mt_C_odd X.l X.Γ _ _ _) hf q869 q870 q871 q85 q872 ⟨rfl, hy_C_odd⟩ (by decide) (fc0 _) ff0 rfl rfl rfl (Nat.le_of_ble_eq_true rfl) dL_law_595 (fun r54 χ55 hf hc55 => ?_)
          refine g_aload_n hX 2 dL_law_598 rfl rfl ?_
          refine g_callVi hX (n := 0) (mt_M_odd X.l X.Γ _ _ _) hf q1819 q1820 q1821 q89 q1822 ⟨rfl, hy_M_odd⟩ (by decide) (fc40 _) ff40 rfl rfl rfl (Nat.le_of_ble_eq_true rfl) dL_law_599 (fun r56 χ57 hf hc57 => ?_)
          refine g_icmp_eq hX 1393 dL_law_602 (by decide) (fun z => ?_) (fun z => ?_)
          · replace hf := hf.1 z
            exact B1393 (w_L_law_18 xs L Q n) hK18 _ _ _ hf
          · replace hf := hf.2 z
            refine g_iconst hX (v := (0 : Int32)) dL_law_605 rfl ?_
            exact hR _ _ _ _ _ dL_law_606 hf
        replace hf := hf.2
        by_cases z14 : ((xs x3.toNatClampNeg) &&& (63 : Int32)) = (14 : Int32)
        · replace hf := hf.1 z14
          refine g_tableIn hX 607 dL_law_33 (by rw [z14]; decide) (by rw [z14]; decide) (by rw [z14] <;> rfl) (by decide) ?_
          refine g_aload_n hX 1 dL_law_607 rfl rfl ?_
          refine g_aload_n hX 0 dL_law_608 rfl rfl ?_
          refine g_iload_n hX 3 dL_law_609 rfl rfl ?_
          refine g_iconst hX (v := (1 : Int32)) dL_law_610 rfl ?_
          refine g_iadd hX dL_law_611 ?_
          refine g_sld hX hS hf.1 dL_law_612 ?_
          replace hf := hf.2
          refine g_callVi hX (n := 1) (mt_C_next X.l X.Γ _ _ _ _) hf q876 q877 q878 q85 q879 ⟨rfl, hy_C_next⟩ (by decide) (fc0 _) ff0 rfl rfl rfl (Nat.le_of_ble_eq_true rfl) dL_law_613 (fun r58 χ59 hf hc59 => ?_)
          refine g_aload_n hX 2 dL_law_616 rfl rfl ?_
          refine g_aload_n hX 0 dL_law_617 rfl rfl ?_
          refine g_iload_n hX 3 dL_law_618 rfl rfl ?_
          refine g_iconst hX (v := (1 : Int32)) dL_law_619 rfl ?_
          refine g_iadd hX dL_law_620 ?_
          refine g_sld hX hS hf.1 dL_law_621 ?_
          replace hf := hf.2
          refine g_callVi hX (n := 1) (mt_M_next X.l X.Γ _ _ _ _) hf q1823 q1824 q1825 q89 q1826 ⟨rfl, hy_M_next⟩ (by decide) (fc40 _) ff40 rfl rfl rfl (Nat.le_of_ble_eq_true rfl) dL_law_622 (fun r60 χ61 hf hc61 => ?_)
          refine g_icmp_eq hX 1393 dL_law_625 (by decide) (fun z => ?_) (fun z => ?_)
          · replace hf := hf.1 z
            exact B1393 (w_L_law_18 xs L Q n) hK18 _ _ _ hf
          · replace hf := hf.2 z
            refine g_iconst hX (v := (0 : Int32)) dL_law_628 rfl ?_
            exact hR _ _ _ _ _ dL_law_629 hf
        replace hf := hf.2
        by_cases z15 : ((xs x3.toNatClampNeg) &&& (63 : Int32)) = (15 : Int32)
        · replace hf := hf.1 z15
          refine g_tableIn hX 630 dL_law_33 (by rw [z15]; decide) (by rw [z15]; decide) (by rw [z15] <;> rfl) (by decide) ?_
          refine g_aload_n hX 1 dL_law_630 rfl rfl ?_
          refine g_aload_n hX 0 dL_law_631 rfl rfl ?_
          refine g_iload_n hX 3 dL_law_632 rfl rfl ?_
          refine g_iconst hX (v := (1 : Int32)) dL_law_633 rfl ?_
          refine g_iadd hX dL_law_634 ?_
          refine g_sld hX hS hf.1 dL_law_635 ?_
          replace hf := hf.2
          refine g_aload_n hX 0 dL_law_636 rfl rfl ?_
          refine g_iload_n hX 3 dL_law_637 rfl rfl ?_
          refine g_iconst hX (v := (2 : Int32)) dL_law_638 rfl ?_
          refine g_iadd hX dL_law_639 ?_
          refine g_sld hX hS hf.1 dL_law_640 ?_
          replace hf := hf.2
          refine g_callVi hX (n := 2) (mt_C_named X.l X.Γ _ _ _ _ _) hf q883 q884 q885 q85 q886 ⟨rfl, hy_C_named⟩ (by decide) (fc0 _) ff0 rfl rfl rfl (Nat.le_of_ble_eq_true rfl) dL_law_641 (fun r62 χ63 hf hc63 => ?_)
          refine g_aload_n hX 2 dL_law_644 rfl rfl ?_
          refine g_aload_n hX 0 dL_law_645 rfl rfl ?_
          refine g_iload_n hX 3 dL_law_646 rfl rfl ?_
          refine g_iconst hX (v := (1 : Int32)) dL_law_647 rfl ?_
          refine g_iadd hX dL_law_648 ?_
          refine g_sld hX hS hf.1 dL_law_649 ?_
          replace hf := hf.2
          refine g_aload_n hX 0 dL_law_650 rfl rfl ?_
          refine g_iload_n hX 3 dL_law_651 rfl rfl ?_
          refine g_iconst hX (v := (2 : Int32)) dL_law_652 rfl ?_
          refine g_iadd hX dL_law_653 ?_
          refine g_sld hX hS hf.1 dL_law_654 ?_
          replace hf := hf.2
          refine g_callVi hX (n := 2) (mt_M_named X.l X.Γ _ _ _ _ _) hf q1827 q1828 q1829 q89 q1830 ⟨rfl, hy_M_named⟩ (by decide) (fc40 _) ff40 rfl rfl rfl (Nat.le_of_ble_eq_true rfl) dL_law_655 (fun r64 χ65 hf hc65 => ?_)
          refine g_icmp_eq hX 1393 dL_law_658 (by decide) (fun z => ?_) (fun z => ?_)
          · replace hf := hf.1 z
            exact B1393 (w_L_law_18 xs L Q n) hK18 _ _ _ hf
          · replace hf := hf.2 z
            refine g_iconst hX (v := (0 : Int32)) dL_law_661 rfl ?_
            exact hR _ _ _ _ _ dL_law_662 hf
        replace hf := hf.2
        by_cases z16 : ((xs x3.toNatClampNeg) &&& (63 : Int32)) = (16 : Int32)
        · replace hf := hf.1 z16
          refine g_tableIn hX 663 dL_law_33 (by rw [z16]; decide) (by rw [z16]; decide) (by rw [z16] <;> rfl) (by decide) ?_
          refine g_aload_n hX 1 dL_law_663 rfl rfl ?_
          refine g_aload_n hX 0 dL_law_664 rfl rfl ?_
          refine g_iload_n hX 3 dL_law_665 rfl rfl ?_
          refine g_iconst hX (v := (1 : Int32)) dL_law_666 rfl ?_
          refine g_iadd hX dL_law_667 ?_
          refine g_sld hX hS hf.1 dL_law_668 ?_
          replace hf := hf.2
          refine g_aload_n hX 0 dL_law_669 rfl rfl ?_
          refine g_iload_n hX 3 dL_law_670 rfl rfl ?_
          refine g_iconst hX (v := (2 : Int32)) dL_law_671 rfl ?_
          refine g_iadd hX dL_law_672 ?_
          refine g_sld hX hS hf.1 dL_law_673 ?_
          replace hf := hf.2
          refine g_callVi hX (n := 2) (mt_C_plan X.l X.Γ _ _ _ _ _) hf q909 q910 q911 q85 q912 ⟨rfl, hy_C_plan⟩ (by decide) (fc0 _) ff0 rfl rfl rfl (Nat.le_of_ble_eq_true rfl) dL_law_674 (fun r66 χ67 hf hc67 => ?_)
          refine g_aload_n hX 2 dL_law_677 rfl rfl ?_
          refine g_aload_n hX 0 dL_law_678 rfl rfl ?_
          refine g_iload_n hX 3 dL_law_679 rfl rfl ?_
          refine g_iconst hX (v := (1 : Int32)) dL_law_680 rfl ?_
          refine g_iadd hX dL_law_681 ?_
          refine g_sld hX hS hf.1 dL_law_682 ?_
          replace hf := hf.2
          refine g_aload_n hX 0 dL_law_683 rfl rfl ?_
          refine g_iload_n hX 3 dL_law_684 rfl rfl ?_
          refine g_iconst hX (v := (2 : Int32)) dL_law_685 rfl ?_
          refine g_iadd hX dL_law_686 ?_
          refine g_sld hX hS hf.1 dL_law_687 ?_
          replace hf := hf.2
          refine g_callVi hX (n := 2) (mt_M_plan X.l X.Γ _ _ _ _ _) hf q1841 q1842 q1843 q89 q1844 ⟨rfl, hy_M_plan⟩ (by decide) (fc40 _) ff40 rfl rfl rfl (Nat.le_of_ble_eq_true rfl) dL_law_688 (fun r68 χ69 hf hc69 => ?_)
          refine g_icmp_eq hX 1393 dL_law_691 (by decide) (fun z => ?_) (fun z => ?_)
          · replace hf := hf.1 z
            exact B1393 (w_L_law_18 xs L Q n) hK18 _ _ _ hf
          · replace hf := hf.2 z
            refine g_iconst hX (v := (0 : Int32)) dL_law_694 rfl ?_
            exact hR _ _ _ _ _ dL_law_695 hf
        replace hf := hf.2
        by_cases z17 : ((xs x3.toNatClampNeg) &&& (63 : Int32)) = (17 : Int32)
        · replace hf := hf.1 z17
          refine g_tableIn hX 696 dL_law_33 (by rw [z17]; decide) (by rw [z17]; decide) (by rw [z17] <;> rfl) (by decide) ?_
          refine g_aload_n hX 1 dL_law_696 rfl rfl ?_
          refine g_aload_n hX 0 dL_law_697 rfl rfl ?_
          refine g_iload_n hX 3 dL_law_698 rfl rfl ?_
          refine g_iconst hX (v := (1 : Int32)) dL_law_699 rfl ?_
          refine g_iadd hX dL_law_700 ?_
          refine g_sld hX hS hf.1 dL_law_701 ?_
          replace hf := hf.2
          refine g_aload_n hX 0 dL_law_702 rfl rfl ?_
          refine g_iload_n hX 3 dL_law_703 rfl rfl ?_
          refine g_iconst hX (v := (2 : Int32)) dL_law_704 rfl ?_
          refine g_iadd hX dL_law_705 ?_
          refine g_sld hX hS hf.1 dL_law_706 ?_
          replace hf := hf.2
          refine g_callVi hX (n := 2) (mt_C_believed X.l X.Γ _ _ _ _ _) hf q917 q918 q919 q85 q920 ⟨rfl, hy_C_believed⟩ (by decide) (fc0 _) ff0 rfl rfl rfl (Nat.le_of_ble_eq_true rfl) dL_law_707 (fun r70 χ71 hf hc71 => ?_)
          refine g_aload_n hX 2 dL_law_710 rfl rfl ?_
          refine g_aload_n hX 0 dL_law_711 rfl rfl ?_
          refine g_iload_n hX 3 dL_law_712 rfl rfl ?_
          refine g_iconst hX (v := (1 : Int32)) dL_law_713 rfl ?_
          refine g_iadd hX dL_law_714 ?_
          refine g_sld hX hS hf.1 dL_law_715 ?_
          replace hf := hf.2
          refine g_aload_n hX 0 dL_law_716 rfl rfl ?_
          refine g_iload_n hX 3 dL_law_717 rfl rfl ?_
          refine g_iconst hX (v := (2 : Int32)) dL_law_718 rfl ?_
          refine g_iadd hX dL_law_719 ?_
          refine g_sld hX hS hf.1 dL_law_720 ?_
          replace hf := hf.2
          refine g_callVi hX (n := 2) (mt_M_believed X.l X.Γ _ _ _ _ _) hf q1850 q1851 q1852 q89 q1853 ⟨rfl, hy_M_believed⟩ (by decide) (fc40 _) ff40 rfl rfl rfl (Nat.le_of_ble_eq_true rfl) dL_law_721 (fun r72 χ73 hf hc73 => ?_)
          refine g_icmp_eq hX 1393 dL_law_724 (by decide) (fun z => ?_) (fun z => ?_)
          · replace hf := hf.1 z
            exact B1393 (w_L_law_18 xs L Q n) hK18 _ _ _ hf
          · replace hf := hf.2 z
            refine g_iconst hX (v := (0 : Int32)) dL_law_727 rfl ?_
            exact hR _ _ _ _ _ dL_law_728 hf
        replace hf := hf.2
        by_cases z18 : ((xs x3.toNatClampNeg) &&& (63 : Int32)) = (18 : Int32)
        · replace hf := hf.1 z18
          refine g_tableIn hX 729 dL_law_33 (by rw [z18]; decide) (by rw [z18]; decide) (by rw [z18] <;> rfl) (by decide) ?_
          refine g_aload_n hX 1 dL_law_729 rfl rfl ?_
          refine g_aload_n hX 0 dL_law_730 rfl rfl ?_
          refine g_iload_n hX 3 dL_law_731 rfl rfl ?_
          refine g_iconst hX (v := (1 : Int32)) dL_law_732 rfl ?_
          refine g_iadd hX dL_law_733 ?_
          refine g_sld hX hS hf.1 dL_law_734 ?_
          replace hf := hf.2
          refine g_aload_n hX 0 dL_law_735 rfl rfl ?_
          refine g_iload_n hX 3 dL_law_736 rfl rfl ?_
          refine g_iconst hX (v := (2 : Int32)) dL_law_737 rfl ?_
          refine g_iadd hX dL_law_738 ?_
          refine g_sld hX hS hf.1 dL_law_739 ?_
          replace hf := hf.2
          refine g_aload_n hX 0 dL_law_740 rfl rfl ?_
          refine g_iload_n hX 3 dL_law_741 rfl rfl ?_
          refine g_iconst hX (v := (3 : Int32)) dL_law_742 rfl ?_
          refine g_iadd hX dL_law_743 ?_
          refine g_sld hX hS hf.1 dL_law_744 ?_
          replace hf := hf.2
          refine g_callVi hX (n := 3) (mt_C_cheapest X.l X.Γ _ _ _ _ _ _) hf q929 q930 q931 q85 q932 ⟨rfl, hy_C_cheapest⟩ (by decide) (fc0 _) ff0 rfl rfl rfl (Nat.le_of_ble_eq_true rfl) dL_law_745 (fun r74 χ75 hf hc75 => ?_)
          refine g_aload_n hX 2 dL_law_748 rfl rfl ?_
          refine g_aload_n hX 0 dL_law_749 rfl rfl ?_
          refine g_iload_n hX 3 dL_law_750 rfl rfl ?_
          refine g_iconst hX (v := (1 : Int32)) dL_law_751 rfl ?_
          refine g_iadd hX dL_law_752 ?_
          refine g_sld hX hS hf.1 dL_law_753 ?_
          replace hf := hf.2
          refine g_aload_n hX 0 dL_law_754 rfl rfl ?_
          refine g_iload_n hX 3 dL_law_755 rfl rfl ?_
          refine g_iconst hX (v := (2 : Int32)) dL_law_756 rfl ?_
          refine g_iadd hX dL_law_757 ?_
          refine g_sld hX hS hf.1 dL_law_758 ?_
          replace hf := hf.2
          refine g_aload_n hX 0 dL_law_759 rfl rfl ?_
          refine g_iload_n hX 3 dL_law_760 rfl rfl ?_
          refine g_iconst hX (v := (3 : Int32)) dL_law_761 rfl ?_
          refine g_iadd hX dL_law_762 ?_
          refine g_sld hX hS hf.1 dL_law_763 ?_
          replace hf := hf.2
          refine g_callVi hX (n := 3) (mt_M_cheapest X.l X.Γ _ _ _ _ _ _) hf q1858 q1859 q1860 q89 q1861 ⟨rfl, hy_M_cheapest⟩ (by decide) (fc40 _) ff40 rfl rfl rfl (Nat.le_of_ble_eq_true rfl) dL_law_764 (fun r76 χ77 hf hc77 => ?_)
          refine g_icmp_eq hX 1393 dL_law_767 (by decide) (fun z => ?_) (fun z => ?_)
          · replace hf := hf.1 z
            exact B1393 (w_L_law_18 xs L Q n) hK18 _ _ _ hf
          · replace hf := hf.2 z
            refine g_iconst hX (v := (0 : Int32)) dL_law_770 rfl ?_
            exact hR _ _ _ _ _ dL_law_771 hf
        replace hf := hf.2
        by_cases z19 : ((xs x3.toNatClampNeg) &&& (63 : Int32)) = (19 : Int32)
        · replace hf := hf.1 z19
          refine g_tableIn hX 772 dL_law_33 (by rw [z19]; decide) (by rw [z19]; decide) (by rw [z19] <;> rfl) (by decide) ?_
          refine g_aload_n hX 1 dL_law_772 rfl rfl ?_
          refine g_aload_n hX 0 dL_law_773 rfl rfl ?_
          refine g_iload_n hX 3 dL_law_774 rfl rfl ?_
          refine g_iconst hX (v := (1 : Int32)) dL_law_775 rfl ?_
          refine g_iadd hX dL_law_776 ?_
          refine g_sld hX hS hf.1 dL_law_777 ?_
          replace hf := hf.2
          refine g_aload_n hX 0 dL_law_778 rfl rfl ?_
          refine g_iload_n hX 3 dL_law_779 rfl rfl ?_
          refine g_iconst hX (v := (2 : Int32)) dL_law_780 rfl ?_
          refine g_iadd hX dL_law_781 ?_
          refine g_sld hX hS hf.1 dL_law_782 ?_
          replace hf := hf.2
          refine g_callVi hX (n := 2) (mt_C_spoils X.l X.Γ _ _ _ _ _) hf q937 q938 q939 q85 q940 ⟨rfl, hy_C_spoils⟩ (by decide) (fc0 _) ff0 rfl rfl rfl (Nat.le_of_ble_eq_true rfl) dL_law_783 (fun r78 χ79 hf hc79 => ?_)
          refine g_aload_n hX 2 dL_law_786 rfl rfl ?_
          refine g_aload_n hX 0 dL_law_787 rfl rfl ?_
          refine g_iload_n hX 3 dL_law_788 rfl rfl ?_
          refine g_iconst hX (v := (1 : Int32)) dL_law_789 rfl ?_
          refine g_iadd hX dL_law_790 ?_
          refine g_sld hX hS hf.1 dL_law_791 ?_
          replace hf := hf.2
          refine g_aload_n hX 0 dL_law_792 rfl rfl ?_
          refine g_iload_n hX 3 dL_law_793 rfl rfl ?_
          refine g_iconst hX (v := (2 : Int32)) dL_law_794 rfl ?_
          refine g_iadd hX dL_law_795 ?_
          refine g_sld hX hS hf.1 dL_law_796 ?_
          replace hf := hf.2
          refine g_callVi hX (n := 2) (mt_M_spoils X.l X.Γ _ _ _ _ _) hf q1866 q1867 q1868 q89 q1869 ⟨rfl, hy_M_spoils⟩ (by decide) (fc40 _) ff40 rfl rfl rfl (Nat.le_of_ble_eq_true rfl) dL_law_797 (fun r80 χ81 hf hc81 => ?_)
          refine g_icmp_eq hX 1393 dL_law_800 (by decide) (fun z => ?_) (fun z => ?_)
          · replace hf := hf.1 z
            exact B1393 (w_L_law_18 xs L Q n) hK18 _ _ _ hf
          · replace hf := hf.2 z
            refine g_iconst hX (v := (0 : Int32)) dL_law_803 rfl ?_
            exact hR _ _ _ _ _ dL_law_804 hf
        replace hf := hf.2
        by_cases z20 : ((xs x3.toNatClampNeg) &&& (63 : Int32)) = (20 : Int32)
        · replace hf := hf.1 z20
          refine g_tableIn hX 805 dL_law_33 (by rw [z20]; decide) (by rw [z20]; decide) (by rw [z20] <;> rfl) (by decide) ?_
          refine g_aload_n hX 1 dL_law_805 rfl rfl ?_
          refine g_aload_n hX 0 dL_law_806 rfl rfl ?_
          refine g_iload_n hX 3 dL_law_807 rfl rfl ?_
          refine g_iconst hX (v := (1 : Int32)) dL_law_808 rfl ?_
          refine g_iadd hX dL_law_809 ?_
          refine g_sld hX hS hf.1 dL_law_810 ?_
          replace hf := hf.2
          refine g_callVi hX (n := 1) (mt_C_price X.l X.Γ _ _ _ _) hf q941 q942 q943 q85 q944 ⟨rfl, hy_C_price⟩ (by decide) (fc0 _) ff0 rfl rfl rfl (Nat.le_of_ble_eq_true rfl) dL_law_811 (fun r82 χ83 hf hc83 => ?_)
          refine g_aload_n hX 2 dL_law_814 rfl rfl ?_
          refine g_aload_n hX 0 dL_law_815 rfl rfl ?_
          refine g_iload_n hX 3 dL_law_816 rfl rfl ?_
          refine g_iconst hX (v := (1 : Int32)) dL_law_817 rfl ?_
          refine g_iadd hX dL_law_818 ?_
          refine g_sld hX hS hf.1 dL_law_819 ?_
          replace hf := hf.2
          refine g_callVi hX (n := 1) (mt_M_price X.l X.Γ _ _ _ _) hf q1870 q1871 q1872 q89 q1873 ⟨rfl, hy_M_price⟩ (by decide) (fc40 _) ff40 rfl rfl rfl (Nat.le_of_ble_eq_true rfl) dL_law_820 (fun r84 χ85 hf hc85 => ?_)
          refine g_icmp_eq hX 1393 dL_law_823 (by decide) (fun z => ?_) (fun z => ?_)
          · replace hf := hf.1 z
            exact B1393 (w_L_law_18 xs L Q n) hK18 _ _ _ hf
          · replace hf := hf.2 z
            refine g_iconst hX (v := (0 : Int32)) dL_law_826 rfl ?_
            exact hR _ _ _ _ _ dL_law_827 hf
        replace hf := hf.2
        by_cases z21 : ((xs x3.toNatClampNeg) &&& (63 : Int32)) = (21 : Int32)
        · replace hf := hf.1 z21
          refine g_tableIn hX 828 dL_law_33 (by rw [z21]; decide) (by rw [z21]; decide) (by rw [z21] <;> rfl) (by decide) ?_
          refine g_aload_n hX 1 dL_law_828 rfl rfl ?_
          refine g_aload_n hX 0 dL_law_829 rfl rfl ?_
          refine g_iload_n hX 3 dL_law_830 rfl rfl ?_
          refine g_iconst hX (v := (1 : Int32)) dL_law_831 rfl ?_
          refine g_iadd hX dL_law_832 ?_
          refine g_sld hX hS hf.1 dL_law_833 ?_
          replace hf := hf.2
          refine g_aload_n hX 0 dL_law_834 rfl rfl ?_
          refine g_iload_n hX 3 dL_law_835 rfl rfl ?_
          refine g_iconst hX (v := (2 : Int32)) dL_law_836 rfl ?_
          refine g_iadd hX dL_law_837 ?_
          refine g_sld hX hS hf.1 dL_law_838 ?_
          replace hf := hf.2
          refine g_callVAi hX hna (n := 2) (mt_C_paper X.l X.Γ _ _ _ _ _) hf q949 q950 q951 q85 q952 ⟨rfl, hy_C_paper⟩ (by decide) (fc0 _) ff0 rfl rfl rfl (Nat.le_of_ble_eq_true rfl) dL_law_839 (fun r86 ad87 χ87 hf hc87 => ?_)
          rw [← hc87.1 0 0 (fc0 _)]
          rw [← hc87.1 40 0 (fc40 _)]
          refine g_aload_n hX 2 dL_law_842 rfl rfl ?_
          refine g_aload_n hX 0 dL_law_843 rfl rfl ?_
          refine g_iload_n hX 3 dL_law_844 rfl rfl ?_
          refine g_iconst hX (v := (1 : Int32)) dL_law_845 rfl ?_
          refine g_iadd hX dL_law_846 ?_
          refine g_sld hX hS hf.1 dL_law_847 ?_
          replace hf := hf.2
          refine g_aload_n hX 0 dL_law_848 rfl rfl ?_
          refine g_iload_n hX 3 dL_law_849 rfl rfl ?_
          refine g_iconst hX (v := (2 : Int32)) dL_law_850 rfl ?_
          refine g_iadd hX dL_law_851 ?_
          refine g_sld hX hS hf.1 dL_law_852 ?_
          replace hf := hf.2
          refine g_callVi hX (n := 2) (mt_M_paper X.l X.Γ _ _ _ _ _) hf q1878 q1879 q1880 q89 q1881 ⟨rfl, hy_M_paper⟩ (by decide) (fc40 _) ff40 rfl rfl rfl (Nat.le_of_ble_eq_true rfl) dL_law_853 (fun r88 χ89 hf hc89 => ?_)
          refine g_icmp_eq hX 1393 dL_law_856 (by decide) (fun z => ?_) (fun z => ?_)
          · replace hf := hf.1 z
            exact B1393 (w_L_law_18 xs L Q n) hK18 _ _ _ hf
          · replace hf := hf.2 z
            refine g_iconst hX (v := (0 : Int32)) dL_law_859 rfl ?_
            exact hR _ _ _ _ _ dL_law_860 hf
        replace hf := hf.2
        by_cases z22 : ((xs x3.toNatClampNeg) &&& (63 : Int32)) = (22 : Int32)
        · replace hf := hf.1 z22
          refine g_tableIn hX 861 dL_law_33 (by rw [z22]; decide) (by rw [z22]; decide) (by rw [z22] <;> rfl) (by decide) ?_
          refine g_aload_n hX 1 dL_law_861 rfl rfl ?_
          refine g_aload_n hX 0 dL_law_862 rfl rfl ?_
          refine g_iload_n hX 3 dL_law_863 rfl rfl ?_
          refine g_iconst hX (v := (1 : Int32)) dL_law_864 rfl ?_
          refine g_iadd hX dL_law_865 ?_
          refine g_sld hX hS hf.1 dL_law_866 ?_
          replace hf := hf.2
          refine g_callVi hX (n := 1) (mt_C_papers X.l X.Γ _ _ _ _) hf q971 q972 q973 q85 q974 ⟨rfl, hy_C_papers⟩ (by decide) (fc0 _) ff0 rfl rfl rfl (Nat.le_of_ble_eq_true rfl) dL_law_867 (fun r90 χ91 hf hc91 => ?_)
          refine g_aload_n hX 2 dL_law_870 rfl rfl ?_
          refine g_aload_n hX 0 dL_law_871 rfl rfl ?_
          refine g_iload_n hX 3 dL_law_872 rfl rfl ?_
          refine g_iconst hX (v := (1 : Int32)) dL_law_873 rfl ?_
          refine g_iadd hX dL_law_874 ?_
          refine g_sld hX hS hf.1 dL_law_875 ?_
          replace hf := hf.2
          refine g_callVi hX (n := 1) (mt_M_papers X.l X.Γ _ _ _ _) hf q1882 q1883 q1884 q89 q1885 ⟨rfl, hy_M_papers⟩ (by decide) (fc40 _) ff40 rfl rfl rfl (Nat.le_of_ble_eq_true rfl) dL_law_876 (fun r92 χ93 hf hc93 => ?_)
          refine g_icmp_eq hX 1393 dL_law_879 (by decide) (fun z => ?_) (fun z => ?_)
          · replace hf := hf.1 z
            exact B1393 (w_L_law_18 xs L Q n) hK18 _ _ _ hf
          · replace hf := hf.2 z
            refine g_iconst hX (v := (0 : Int32)) dL_law_882 rfl ?_
            exact hR _ _ _ _ _ dL_law_883 hf
        replace hf := hf.2
        by_cases z23 : ((xs x3.toNatClampNeg) &&& (63 : Int32)) = (23 : Int32)
        · replace hf := hf.1 z23
          refine g_tableIn hX 884 dL_law_33 (by rw [z23]; decide) (by rw [z23]; decide) (by rw [z23] <;> rfl) (by decide) ?_
          refine g_aload_n hX 1 dL_law_884 rfl rfl ?_
          refine g_aload_n hX 0 dL_law_885 rfl rfl ?_
          refine g_iload_n hX 3 dL_law_886 rfl rfl ?_
          refine g_iconst hX (v := (1 : Int32)) dL_law_887 rfl ?_
          refine g_iadd hX dL_law_888 ?_
          refine g_sld hX hS hf.1 dL_law_889 ?_
          replace hf := hf.2
          refine g_callVi hX (n := 1) (mt_C_house X.l X.Γ _ _ _ _) hf q995 q996 q997 q85 q998 ⟨rfl, hy_C_house⟩ (by decide) (fc0 _) ff0 rfl rfl rfl (Nat.le_of_ble_eq_true rfl) dL_law_890 (fun r94 χ95 hf hc95 => ?_)
          refine g_aload_n hX 2 dL_law_893 rfl rfl ?_
          refine g_aload_n hX 0 dL_law_894 rfl rfl ?_
          refine g_iload_n hX 3 dL_law_895 rfl rfl ?_
          refine g_iconst hX (v := (1 : Int32)) dL_law_896 rfl ?_
          refine g_iadd hX dL_law_897 ?_
          refine g_sld hX hS hf.1 dL_law_898 ?_
          replace hf := hf.2
          refine g_callVi hX (n := 1) (mt_M_house X.l X.Γ _ _ _ _) hf q1898 q1899 q1900 q89 q1901 ⟨rfl, hy_M_house⟩ (by decide) (fc40 _) ff40 rfl rfl rfl (Nat.le_of_ble_eq_true rfl) dL_law_899 (fun r96 χ97 hf hc97 => ?_)
          refine g_icmp_eq hX 1393 dL_law_902 (by decide) (fun z => ?_) (fun z => ?_)
          · replace hf := hf.1 z
            exact B1393 (w_L_law_18 xs L Q n) hK18 _ _ _ hf
          · replace hf := hf.2 z
            refine g_iconst hX (v := (0 : Int32)) dL_law_905 rfl ?_
            exact hR _ _ _ _ _ dL_law_906 hf
        replace hf := hf.2
        by_cases z24 : ((xs x3.toNatClampNeg) &&& (63 : Int32)) = (24 : Int32)
        · replace hf := hf.1 z24
          refine g_tableIn hX 907 dL_law_33 (by rw [z24]; decide) (by rw [z24]; decide) (by rw [z24] <;> rfl) (by decide) ?_
          refine g_aload_n hX 1 dL_law_907 rfl rfl ?_
          refine g_aload_n hX 0 dL_law_908 rfl rfl ?_
          refine g_iload_n hX 3 dL_law_909 rfl rfl ?_
          refine g_iconst hX (v := (1 : Int32)) dL_law_910 rfl ?_
          refine g_iadd hX dL_law_911 ?_
          refine g_sld hX hS hf.1 dL_law_912 ?_
          replace hf := hf.2
          refine g_aload_n hX 0 dL_law_913 rfl rfl ?_
          refine g_iload_n hX 3 dL_law_914 rfl rfl ?_
          refine g_iconst hX (v := (2 : Int32)) dL_law_915 rfl ?_
          refine g_iadd hX dL_law_916 ?_
          refine g_sld hX hS hf.1 dL_law_917 ?_
          replace hf := hf.2
          refine g_aload_n hX 0 dL_law_918 rfl rfl ?_
          refine g_iload_n hX 3 dL_law_919 rfl rfl ?_
          refine g_iconst hX (v := (3 : Int32)) dL_law_920 rfl ?_
          refine g_iadd hX dL_law_921 ?_
          refine g_sld hX hS hf.1 dL_law_922 ?_
          replace hf := hf.2
          refine g_callVi hX (n := 3) (mt_C_drawn X.l X.Γ _ _ _ _ _ _) hf q999 q1000 q1001 q85 q1002 ⟨rfl, hy_C_drawn⟩ (by decide) (fc0 _) ff0 rfl rfl rfl (Nat.le_of_ble_eq_true rfl) dL_law_923 (fun r98 χ99 hf hc99 => ?_)
          refine g_aload_n hX 2 dL_law_926 rfl rfl ?_
          refine g_aload_n hX 0 dL_law_927 rfl rfl ?_
          refine g_iload_n hX 3 dL_law_928 rfl rfl ?_
          refine g_iconst hX (v := (1 : Int32)) dL_law_929 rfl ?_
          refine g_iadd hX dL_law_930 ?_
          refine g_sld hX hS hf.1 dL_law_931 ?_
          replace hf := hf.2
          refine g_aload_n hX 0 dL_law_932 rfl rfl ?_
          refine g_iload_n hX 3 dL_law_933 rfl rfl ?_
          refine g_iconst hX (v := (2 : Int32)) dL_law_934 rfl ?_
          refine g_iadd hX dL_law_935 ?_
          refine g_sld hX hS hf.1 dL_law_936 ?_
          replace hf := hf.2
          refine g_aload_n hX 0 dL_law_937 rfl rfl ?_
          refine g_iload_n hX 3 dL_law_938 rfl rfl ?_
          refine g_iconst hX (v := (3 : Int32)) dL_law_939 rfl ?_
          refine g_iadd hX dL_law_940 ?_
          refine g_sld hX hS hf.1 dL_law_941 ?_
          replace hf := hf.2
          refine g_callVi hX (n := 3) (mt_M_drawn X.l X.Γ _ _ _ _ _ _) hf q1903 q1904 q1905 q89 q1906 ⟨rfl, hy_M_drawn⟩ (by decide) (fc40 _) ff40 rfl rfl rfl (Nat.le_of_ble_eq_true rfl) dL_law_942 (fun r100 χ101 hf hc101 => ?_)
          refine g_icmp_eq hX 1393 dL_law_945 (by decide) (fun z => ?_) (fun z => ?_)
          · replace hf := hf.1 z
            exact B1393 (w_L_law_18 xs L Q n) hK18 _ _ _ hf
          · replace hf := hf.2 z
            refine g_iconst hX (v := (0 : Int32)) dL_law_948 rfl ?_
            exact hR _ _ _ _ _ dL_law_949 hf
        replace hf := hf.2
        by_cases z25 : ((xs x3.toNatClampNeg) &&& (63 : Int32)) = (25 : Int32)
        · replace hf := hf.1 z25
          refine g_tableIn hX 950 dL_law_33 (by rw [z25]; decide) (by rw [z25]; decide) (by rw [z25] <;> rfl) (by decide) ?_
          refine g_aload_n hX 1 dL_law_950 rfl rfl ?_
          refine g_callVi hX (n := 0) (mt_C_image X.l X.Γ _ _ _) hf q1004 q1005 q1006 q85 q1007 ⟨rfl, hy_C_image⟩ (by decide) (fc0 _) ff0 rfl rfl rfl (Nat.le_of_ble_eq_true rfl) dL_law_951 (fun r102 χ103 hf hc103 => ?_)
          refine g_aload_n hX 2 dL_law_954 rfl rfl ?_
          refine g_callVi hX (n := 0) (mt_M_image X.l X.Γ _ _ _) hf q1908 q1909 q1910 q89 q1911 ⟨rfl, hy_M_image⟩ (by decide) (fc40 _) ff40 rfl rfl rfl (Nat.le_of_ble_eq_true rfl) dL_law_955 (fun r104 χ105 hf hc105 => ?_)
          refine g_icmp_eq hX 1393 dL_law_958 (by decide) (fun z => ?_) (fun z => ?_)
          · replace hf := hf.1 z
            exact B1393 (w_L_law_18 xs L Q n) hK18 _ _ _ hf
          · replace hf := hf.2 z
            refine g_iconst hX (v := (0 : Int32)) dL_law_961 rfl ?_
            exact hR _ _ _ _ _ dL_law_962 hf
        replace hf := hf.2
        by_cases z26 : ((xs x3.toNatClampNeg) &&& (63 : Int32)) = (26 : Int32)
        · replace hf := hf.1 z26
          refine g_tableIn hX 963 dL_law_33 (by rw [z26]; decide) (by rw [z26]; decide) (by rw [z26] <;> rfl) (by decide) ?_
          refine g_aload_n hX 1 dL_law_963 rfl rfl ?_
          refine g_callVi hX (n := 0) (mt_C_back X.l X.Γ _ _ _) hf q1008 q1009 q1010 q85 q1011 ⟨rfl, hy_C_back⟩ (by decide) (fc0 _) ff0 rfl rfl rfl (Nat.le_of_ble_eq_true rfl) dL_law_964 (fun r106 χ107 hf hc107 => ?_)
          refine g_aload_n hX 2 dL_law_967 rfl rfl ?_
          refine g_callVi hX (n := 0) (mt_M_back X.l X.Γ _ _ _) hf q1912 q1913 q1914 q89 q1915 ⟨rfl, hy_M_back⟩ (by decide) (fc40 _) ff40 rfl rfl rfl (Nat.le_of_ble_eq_true rfl) dL_law_968 (fun r108 χ109 hf hc109 => ?_)
          refine g_icmp_eq hX 1393 dL_law_971 (by decide) (fun z => ?_) (fun z => ?_)
          · replace hf := hf.1 z
            exact B1393 (w_L_law_18 xs L Q n) hK18 _ _ _ hf
          · replace hf := hf.2 z
            refine g_iconst hX (v := (0 : Int32)) dL_law_974 rfl ?_
            exact hR _ _ _ _ _ dL_law_975 hf
        replace hf := hf.2
        by_cases z27 : ((xs x3.toNatClampNeg) &&& (63 : Int32)) = (27 : Int32)
        · replace hf := hf.1 z27
          refine g_tableIn hX 976 dL_law_33 (by rw [z27]; decide) (by rw [z27]; decide) (by rw [z27] <;> rfl) (by decide) ?_
          refine g_aload_n hX 1 dL_law_976 rfl rfl ?_
          refine g_callVi hX (n := 0) (mt_C_undo X.l X.Γ _ _ _) hf q472 q473 q474 q85 q475 ⟨rfl, hy_C_undo⟩ (by decide) (fc0 _) ff0 rfl rfl rfl (Nat.le_of_ble_eq_true rfl) dL_law_977 (fun r110 χ111 hf hc111 => ?_)
          refine g_aload_n hX 2 dL_law_980 rfl rfl ?_
          refine g_callVi hX (n := 0) (mt_M_undo X.l X.Γ _ _ _) hf q1638 q1639 q1640 q89 q1641 ⟨rfl, hy_M_undo⟩ (by decide) (fc40 _) ff40 rfl rfl rfl (Nat.le_of_ble_eq_true rfl) dL_law_981 (fun r112 χ113 hf hc113 => ?_)
          refine g_icmp_eq hX 1393 dL_law_984 (by decide) (fun z => ?_) (fun z => ?_)
          · replace hf := hf.1 z
            exact B1393 (w_L_law_18 xs L Q n) hK18 _ _ _ hf
          · replace hf := hf.2 z
            refine g_iconst hX (v := (0 : Int32)) dL_law_987 rfl ?_
            exact hR _ _ _ _ _ dL_law_988 hf
        replace hf := hf.2
        by_cases z28 : ((xs x3.toNatClampNeg) &&& (63 : Int32)) = (28 : Int32)
        · replace hf := hf.1 z28
          refine g_tableIn hX 989 dL_law_33 (by rw [z28]; decide) (by rw [z28]; decide) (by rw [z28] <;> rfl) (by decide) ?_
          refine g_aload_n hX 1 dL_law_989 rfl rfl ?_
          refine g_callVi hX (n := 0) (mt_C_redo X.l X.Γ _ _ _) hf q480 q481 q482 q85 q483 ⟨rfl, hy_C_redo⟩ (by decide) (fc0 _) ff0 rfl rfl rfl (Nat.le_of_ble_eq_true rfl) dL_law_990 (fun r114 χ115 hf hc115 => ?_)
          refine g_aload_n hX 2 dL_law_993 rfl rfl ?_
          refine g_callVi hX (n := 0) (mt_M_redo X.l X.Γ _ _ _) hf q1642 q1643 q1644 q89 q1645 ⟨rfl, hy_M_redo⟩ (by decide) (fc40 _) ff40 rfl rfl rfl (Nat.le_of_ble_eq_true rfl) dL_law_994 (fun r116 χ117 hf hc117 => ?_)
          refine g_icmp_eq hX 1393 dL_law_997 (by decide) (fun z => ?_) (fun z => ?_)
          · replace hf := hf.1 z
            exact B1393 (w_L_law_18 xs L Q n) hK18 _ _ _ hf
          · replace hf := hf.2 z
            refine g_iconst hX (v := (0 : Int32)) dL_law_1000 rfl ?_
            exact hR _ _ _ _ _ dL_law_1001 hf
        replace hf := hf.2
        by_cases z29 : ((xs x3.toNatClampNeg) &&& (63 : Int32)) = (29 : Int32)
        · replace hf := hf.1 z29
          refine g_tableIn hX 1002 dL_law_33 (by rw [z29]; decide) (by rw [z29]; decide) (by rw [z29] <;> rfl) (by decide) ?_
          refine g_aload_n hX 1 dL_law_1002 rfl rfl ?_
          refine g_aload_n hX 0 dL_law_1003 rfl rfl ?_
          refine g_iload_n hX 3 dL_law_1004 rfl rfl ?_
          refine g_iconst hX (v := (1 : Int32)) dL_law_1005 rfl ?_
          refine g_iadd hX dL_law_1006 ?_
          refine g_sld hX hS hf.1 dL_law_1007 ?_
          replace hf := hf.2
          refine g_callVAi hX hna (n := 1) (mt_C_body X.l X.Γ _ _ _ _) hf q1012 q1013 q1014 q85 q1015 ⟨rfl, hy_C_body⟩ (by decide) (fc0 _) ff0 rfl rfl rfl (Nat.le_of_ble_eq_true rfl) dL_law_1008 (fun r118 ad119 χ119 hf hc119 => ?_)
          rw [← hc119.1 0 0 (fc0 _)]
          rw [← hc119.1 40 0 (fc40 _)]
          refine g_aload_n hX 2 dL_law_1011 rfl rfl ?_
          refine g_aload_n hX 0 dL_law_1012 rfl rfl ?_
          refine g_iload_n hX 3 dL_law_1013 rfl rfl ?_
          refine g_iconst hX (v := (1 : Int32)) dL_law_1014 rfl ?_
          refine g_iadd hX dL_law_1015 ?_
          refine g_sld hX hS hf.1 dL_law_1016 ?_
          replace hf := hf.2
          refine g_callVi hX (n := 1) (mt_M_body X.l X.Γ _ _ _ _) hf q1916 q1917 q1918 q89 q1919 ⟨rfl, hy_M_body⟩ (by decide) (fc40 _) ff40 rfl rfl rfl (Nat.le_of_ble_eq_true rfl) dL_law_1017 (fun r120 χ121 hf hc121 => ?_)
          refine g_icmp_eq hX 1393 dL_law_1020 (by decide) (fun z => ?_) (fun z => ?_)
          · replace hf := hf.1 z
            exact B1393 (w_L_law_18 xs L Q n) hK18 _ _ _ hf
          · replace hf := hf.2 z
            refine g_iconst hX (v := (0 : Int32)) dL_law_1023 rfl ?_
            exact hR _ _ _ _ _ dL_law_1024 hf
        replace hf := hf.2
        by_cases z30 : ((xs x3.toNatClampNeg) &&& (63 : Int32)) = (30 : Int32)
        · replace hf := hf.1 z30
          refine g_tableIn hX 1025 dL_law_33 (by rw [z30]; decide) (by rw [z30]; decide) (by rw [z30] <;> rfl) (by decide) ?_
          refine g_aload_n hX 1 dL_law_1025 rfl rfl ?_
          refine g_aload_n hX 0 dL_law_1026 rfl rfl ?_
          refine g_iload_n hX 3 dL_law_1027 rfl rfl ?_
          refine g_iconst hX (v := (1 : Int32)) dL_law_1028 rfl ?_
          refine g_iadd hX dL_law_1029 ?_
          refine g_sld hX hS hf.1 dL_law_1030 ?_
          replace hf := hf.2
          refine g_aload_n hX 0 dL_law_1031 rfl rfl ?_
          refine g_iload_n hX 3 dL_law_1032 rfl rfl ?_
          refine g_iconst hX (v := (2 : Int32)) dL_law_1033 rfl ?_
          refine g_iadd hX dL_law_1034 ?_
          refine g_sld hX hS hf.1 dL_law_1035 ?_
          replace hf := hf.2
          refine g_aload_n hX 0 dL_law_1036 rfl rfl ?_
          refine g_iload_n hX 3 dL_law_1037 rfl rfl ?_
          refine g_iconst hX (v := (3 : Int32)) dL_law_1038 rfl ?_
          refine g_iadd hX dL_law_1039 ?_
          refine g_sld hX hS hf.1 dL_law_1040 ?_
          replace hf := hf.2
          refine g_callVi hX (n := 3) (mt_C_act X.l X.Γ _ _ _ _ _ _) hf q1125 q1126 q1127 q85 q1128 ⟨rfl, hy_C_act⟩ (by decide) (fc0 _) ff0 rfl rfl rfl (Nat.le_of_ble_eq_true rfl) dL_law_1041 (fun r122 χ123 hf hc123 => ?_)
          refine g_aload_n hX 2 dL_law_1044 rfl rfl ?_
          refine g_aload_n hX 0 dL_law_1045 rfl rfl ?_
          refine g_iload_n hX 3 dL_law_1046 rfl rfl ?_
          refine g_iconst hX (v := (1 : Int32)) dL_law_1047 rfl ?_
          refine g_iadd hX dL_law_1048 ?_
          refine g_sld hX hS hf.1 dL_law_1049 ?_
          replace hf := hf.2
          refine g_aload_n hX 0 dL_law_1050 rfl rfl ?_
          refine g_iload_n hX 3 dL_law_1051 rfl rfl ?_
          refine g_iconst hX (v := (2 : Int32)) dL_law_1052 rfl ?_
          refine g_iadd hX dL_law_1053 ?_
          refine g_sld hX hS hf.1 dL_law_1054 ?_
          replace hf := hf.2
          refine g_aload_n hX 0 dL_law_1055 rfl rfl ?_
          refine g_iload_n hX 3 dL_law_1056 rfl rfl ?_
          refine g_iconst hX (v := (3 : Int32)) dL_law_1057 rfl ?_
          refine g_iadd hX dL_law_1058 ?_
          refine g_sld hX hS hf.1 dL_law_1059 ?_
          replace hf := hf.2
          refine g_callVi hX (n := 3) (mt_M_act X.l X.Γ _ _ _ _ _ _) hf q1921 q1922 q1923 q89 q1924 ⟨rfl, hy_M_act⟩ (by decide) (fc40 _) ff40 rfl rfl rfl (Nat.le_of_ble_eq_true rfl) dL_law_1060 (fun r124 χ125 hf hc125 => ?_)
          refine g_icmp_eq hX 1393 dL_law_1063 (by decide) (fun z => ?_) (fun z => ?_)
          · replace hf := hf.1 z
            exact B1393 (w_L_law_18 xs L Q n) hK18 _ _ _ hf
          · replace hf := hf.2 z
            refine g_iconst hX (v := (0 : Int32)) dL_law_1066 rfl ?_
            exact hR _ _ _ _ _ dL_law_1067 hf
        replace hf := hf.2
        by_cases z31 : ((xs x3.toNatClampNeg) &&& (63 : Int32)) = (31 : Int32)
        · replace hf := hf.1 z31
          refine g_tableIn hX 1068 dL_law_33 (by rw [z31]; decide) (by rw [z31]; decide) (by rw [z31] <;> rfl) (by decide) ?_
          refine g_aload_n hX 1 dL_law_1068 rfl rfl ?_
          refine g_aload_n hX 0 dL_law_1069 rfl rfl ?_
          refine g_iload_n hX 3 dL_law_1070 rfl rfl ?_
          refine g_iconst hX (v := (1 : Int32)) dL_law_1071 rfl ?_
          refine g_iadd hX dL_law_1072 ?_
          refine g_sld hX hS hf.1 dL_law_1073 ?_
          replace hf := hf.2
          refine g_callVi hX (n := 1) (mt_C_trace X.l X.Γ _ _ _ _) hf q1272 q1273 q1274 q85 q1275 ⟨rfl, hy_C_trace⟩ (by decide) (fc0 _) ff0 rfl rfl rfl (Nat.le_of_ble_eq_true rfl) dL_law_1074 (fun r126 χ127 hf hc127 => ?_)
          refine g_aload_n hX 2 dL_law_1077 rfl rfl ?_
          refine g_aload_n hX 0 dL_law_1078 rfl rfl ?_
          refine g_iload_n hX 3 dL_law_1079 rfl rfl ?_
          refine g_iconst hX (v := (1 : Int32)) dL_law_1080 rfl ?_
          refine g_iadd hX dL_law_1081 ?_
          refine g_sld hX hS hf.1 dL_law_1082 ?_
          replace hf := hf.2
          refine g_callVi hX (n := 1) (mt_M_trace X.l X.Γ _ _ _ _) hf q1949 q1950 q1951 q89 q1952 ⟨rfl, hy_M_trace⟩ (by decide) (fc40 _) ff40 rfl rfl rfl (Nat.le_of_ble_eq_true rfl) dL_law_1083 (fun r128 χ129 hf hc129 => ?_)
          refine g_icmp_eq hX 1393 dL_law_1086 (by decide) (fun z => ?_) (fun z => ?_)
          · replace hf := hf.1 z
            exact B1393 (w_L_law_18 xs L Q n) hK18 _ _ _ hf
          · replace hf := hf.2 z
            refine g_iconst hX (v := (0 : Int32)) dL_law_1089 rfl ?_
            exact hR _ _ _ _ _ dL_law_1090 hf
        replace hf := hf.2
        by_cases z32 : ((xs x3.toNatClampNeg) &&& (63 : Int32)) = (32 : Int32)
        · replace hf := hf.1 z32
          refine g_tableIn hX 1091 dL_law_33 (by rw [z32]; decide) (by rw [z32]; decide) (by rw [z32] <;> rfl) (by decide) ?_
          refine g_aload_n hX 1 dL_law_1091 rfl rfl ?_
          refine g_aload_n hX 0 dL_law_1092 rfl rfl ?_
          refine g_iload_n hX 3 dL_law_1093 rfl rfl ?_
          refine g_iconst hX (v := (1 : Int32)) dL_law_1094 rfl ?_
          refine g_iadd hX dL_law_1095 ?_
          refine g_sld hX hS hf.1 dL_law_1096 ?_
          replace hf := hf.2
          refine g_aload_n hX 0 dL_law_1097 rfl rfl ?_
          refine g_iload_n hX 3 dL_law_1098 rfl rfl ?_
          refine g_iconst hX (v := (2 : Int32)) dL_law_1099 rfl ?_
          refine g_iadd hX dL_law_1100 ?_
          refine g_sld hX hS hf.1 dL_law_1101 ?_
          replace hf := hf.2
          refine g_callVi hX (n := 2) (mt_C_keep X.l X.Γ _ _ _ _ _) hf q1276 q1277 q1278 q85 q1279 ⟨rfl, hy_C_keep⟩ (by decide) (fc0 _) ff0 rfl rfl rfl (Nat.le_of_ble_eq_true rfl) dL_law_1102 (fun r130 χ131 hf hc131 => ?_)
          refine g_aload_n hX 2 dL_law_1105 rfl rfl ?_
          refine g_aload_n hX 0 dL_law_1106 rfl rfl ?_
          refine g_iload_n hX 3 dL_law_1107 rfl rfl ?_
          refine g_iconst hX (v := (1 : Int32)) dL_law_1108 rfl ?_
          refine g_iadd hX dL_law_1109 ?_
          refine g_sld hX hS hf.1 dL_law_1110 ?_
          replace hf := hf.2
          refine g_aload_n hX 0 dL_law_1111 rfl rfl ?_
          refine g_iload_n hX 3 dL_law_1112 rfl rfl ?_
          refine g_iconst hX (v := (2 : Int32)) dL_law_1113 rfl ?_
          refine g_iadd hX dL_law_1114 ?_
          refine g_sld hX hS hf.1 dL_law_1115 ?_
          replace hf := hf.2
          refine g_callVi hX (n := 2) (mt_M_keep X.l X.Γ _ _ _ _ _) hf q1953 q1954 q1955 q89 q1956 ⟨rfl, hy_M_keep⟩ (by decide) (fc40 _) ff40 rfl rfl rfl (Nat.le_of_ble_eq_true rfl) dL_law_1116 (fun r132 χ133 hf hc133 => ?_)
          refine g_icmp_eq hX 1393 dL_law_1119 (by decide) (fun z => ?_) (fun z => ?_)
          · replace hf := hf.1 z
            exact B1393 (w_L_law_18 xs L Q n) hK18 _ _ _ hf
          · replace hf := hf.2 z
            refine g_iconst hX (v := (0 : Int32)) dL_law_1122 rfl ?_
            exact hR _ _ _ _ _ dL_law_1123 hf
        replace hf := hf.2
        by_cases z33 : ((xs x3.toNatClampNeg) &&& (63 : Int32)) = (33 : Int32)
        · replace hf := hf.1 z33
          refine g_tableIn hX 1124 dL_law_33 (by rw [z33]; decide) (by rw [z33]; decide) (by rw [z33] <;> rfl) (by decide) ?_
          refine g_aload_n hX 1 dL_law_1124 rfl rfl ?_
          refine g_aload_n hX 0 dL_law_1125 rfl rfl ?_
          refine g_iload_n hX 3 dL_law_1126 rfl rfl ?_
          refine g_iconst hX (v := (1 : Int32)) dL_law_1127 rfl ?_
          refine g_iadd hX dL_law_1128 ?_
          refine g_sld hX hS hf.1 dL_law_1129 ?_
          replace hf := hf.2
          refine g_aload_n hX 0 dL_law_1130 rfl rfl ?_
          refine g_iload_n hX 3 dL_law_1131 rfl rfl ?_
          refine g_iconst hX (v := (2 : Int32)) dL_law_1132 rfl ?_
          refine g_iadd hX dL_law_1133 ?_
          refine g_sld hX hS hf.1 dL_law_1134 ?_
          replace hf := hf.2
          refine g_aload_n hX 0 dL_law_1135 rfl rfl ?_
          refine g_iload_n hX 3 dL_law_1136 rfl rfl ?_
          refine g_iconst hX (v := (3 : Int32)) dL_law_1137 rfl ?_
          refine g_iadd hX dL_law_1138 ?_
          refine g_sld hX hS hf.1 dL_law_1139 ?_
          replace hf := hf.2
          refine g_callVWAi hX hna (n := 3) (mt_C_row X.l hT.2 X.Γ _ _ _ _ _ _) hf q1280 q1281 q1282 q85 q1283 ⟨rfl, hy_C_row⟩ (by decide) (fc0 _) ff0 rfl rfl rfl (Nat.le_of_ble_eq_true rfl) dL_law_1140 (fun r134 ad135 χ135 hf hc135 => ?_)
          rw [← hc135.1 0 0 (fc0 _)]
          rw [← hc135.1 40 0 (fc40 _)]
          refine g_aload_n hX 2 dL_law_1143 rfl rfl ?_
          refine g_aload_n hX 0 dL_law_1144 rfl rfl ?_
          refine g_iload_n hX 3 dL_law_1145 rfl rfl ?_
          refine g_iconst hX (v := (1 : Int32)) dL_law_1146 rfl ?_
          refine g_iadd hX dL_law_1147 ?_
          refine g_sld hX hS hf.1 dL_law_1148 ?_
          replace hf := hf.2
          refine g_aload_n hX 0 dL_law_1149 rfl rfl ?_
          refine g_iload_n hX 3 dL_law_1150 rfl rfl ?_
          refine g_iconst hX (v := (2 : Int32)) dL_law_1151 rfl ?_
          refine g_iadd hX dL_law_1152 ?_
          refine g_sld hX hS hf.1 dL_law_1153 ?_
          replace hf := hf.2
          refine g_aload_n hX 0 dL_law_1154 rfl rfl ?_
          refine g_iload_n hX 3 dL_law_1155 rfl rfl ?_
          refine g_iconst hX (v := (3 : Int32)) dL_law_1156 rfl ?_
          refine g_iadd hX dL_law_1157 ?_
          refine g_sld hX hS hf.1 dL_law_1158 ?_
          replace hf := hf.2
          refine g_callVi hX (n := 3) (mt_M_row X.l X.Γ _ _ _ _ _ _) hf q1957 q1958 q1959 q89 q1960 ⟨rfl, hy_M_row⟩ (by decide) (fc40 _) ff40 rfl rfl rfl (Nat.le_of_ble_eq_true rfl) dL_law_1159 (fun r136 χ137 hf hc137 => ?_)
          refine g_icmp_eq hX 1393 dL_law_1162 (by decide) (fun z => ?_) (fun z => ?_)
          · replace hf := hf.1 z
            exact B1393 (w_L_law_18 xs L Q n) hK18 _ _ _ hf
          · replace hf := hf.2 z
            refine g_iconst hX (v := (0 : Int32)) dL_law_1165 rfl ?_
            exact hR _ _ _ _ _ dL_law_1166 hf
        replace hf := hf.2
        by_cases z34 : ((xs x3.toNatClampNeg) &&& (63 : Int32)) = (34 : Int32)
        · replace hf := hf.1 z34
          refine g_tableIn hX 1167 dL_law_33 (by rw [z34]; decide) (by rw [z34]; decide) (by rw [z34] <;> rfl) (by decide) ?_
          refine g_aload_n hX 1 dL_law_1167 rfl rfl ?_
          refine g_aload_n hX 0 dL_law_1168 rfl rfl ?_
          refine g_iload_n hX 3 dL_law_1169 rfl rfl ?_
          refine g_iconst hX (v := (1 : Int32)) dL_law_1170 rfl ?_
          refine g_iadd hX dL_law_1171 ?_
          refine g_sld hX hS hf.1 dL_law_1172 ?_
          replace hf := hf.2
          refine g_aload_n hX 0 dL_law_1173 rfl rfl ?_
          refine g_iload_n hX 3 dL_law_1174 rfl rfl ?_
          refine g_iconst hX (v := (2 : Int32)) dL_law_1175 rfl ?_
          refine g_iadd hX dL_law_1176 ?_
          refine g_sld hX hS hf.1 dL_law_1177 ?_
          replace hf := hf.2
          refine g_aload_n hX 0 dL_law_1178 rfl rfl ?_
          refine g_iload_n hX 3 dL_law_1179 rfl rfl ?_
          refine g_iconst hX (v := (3 : Int32)) dL_law_1180 rfl ?_
          refine g_iadd hX dL_law_1181 ?_
          refine g_sld hX hS hf.1 dL_law_1182 ?_
          replace hf := hf.2
          refine g_i2l hX dL_law_1183 ?_
          refine g_bipush hX (v := (32 : Int32)) dL_law_1184 rfl ?_
          refine g_lshl hX dL_law_1186 ?_
          refine g_aload_n hX 0 dL_law_1187 rfl rfl ?_
          refine g_iload_n hX 3 dL_law_1188 rfl rfl ?_
          refine g_iconst hX (v := (4 : Int32)) dL_law_1189 rfl ?_
          refine g_iadd hX dL_law_1190 ?_
          refine g_sld hX hS hf.1 dL_law_1191 ?_
          replace hf := hf.2
          refine g_i2l hX dL_law_1192 ?_
          refine g_ldc2 hX q2000 dL_law_1193 ?_
          refine g_land hX dL_law_1196 ?_
          refine g_lor hX dL_law_1197 ?_
          refine g_callVWi hX (n := 3) (mt_C_put X.l hT.2 X.Γ _ _ _ _ _ _) hf q1355 q1356 q1357 q85 q1358 ⟨rfl, hy_C_put⟩ (by decide) (fc0 _) ff0 rfl rfl rfl (Nat.le_of_ble_eq_true rfl) dL_law_1198 (fun r138 χ139 hf hc139 => ?_)
          refine g_aload_n hX 2 dL_law_1201 rfl rfl ?_
          refine g_aload_n hX 0 dL_law_1202 rfl rfl ?_
          refine g_iload_n hX 3 dL_law_1203 rfl rfl ?_
          refine g_iconst hX (v := (1 : Int32)) dL_law_1204 rfl ?_
          refine g_iadd hX dL_law_1205 ?_
          refine g_sld hX hS hf.1 dL_law_1206 ?_
          replace hf := hf.2
          refine g_aload_n hX 0 dL_law_1207 rfl rfl ?_
          refine g_iload_n hX 3 dL_law_1208 rfl rfl ?_
          refine g_iconst hX (v := (2 : Int32)) dL_law_1209 rfl ?_
          refine g_iadd hX dL_law_1210 ?_
          refine g_sld hX hS hf.1 dL_law_1211 ?_
          replace hf := hf.2
          refine g_aload_n hX 0 dL_law_1212 rfl rfl ?_
          refine g_iload_n hX 3 dL_law_1213 rfl rfl ?_
          refine g_iconst hX (v := (3 : Int32)) dL_law_1214 rfl ?_
          refine g_iadd hX dL_law_1215 ?_
          refine g_sld hX hS hf.1 dL_law_1216 ?_
          replace hf := hf.2
          refine g_i2l hX dL_law_1217 ?_
          refine g_bipush hX (v := (32 : Int32)) dL_law_1218 rfl ?_
          refine g_lshl hX dL_law_1220 ?_
          refine g_aload_n hX 0 dL_law_1221 rfl rfl ?_
          refine g_iload_n hX 3 dL_law_1222 rfl rfl ?_
          refine g_iconst hX (v := (4 : Int32)) dL_law_1223 rfl ?_
          refine g_iadd hX dL_law_1224 ?_
          refine g_sld hX hS hf.1 dL_law_1225 ?_
          replace hf := hf.2
          refine g_i2l hX dL_law_1226 ?_
          refine g_ldc2 hX q2000 dL_law_1227 ?_
          refine g_land hX dL_law_1230 ?_
          refine g_lor hX dL_law_1231 ?_
          refine g_callVi hX (n := 3) (mt_M_put X.l X.Γ _ _ _ _ _ _) hf q1962 q1963 q1964 q89 q1965 ⟨rfl, hy_M_put⟩ (by decide) (fc40 _) ff40 rfl rfl rfl (Nat.le_of_ble_eq_true rfl) dL_law_1232 (fun r140 χ141 hf hc141 => ?_)
          refine g_icmp_eq hX 1393 dL_law_1235 (by decide) (fun z => ?_) (fun z => ?_)
          · replace hf := hf.1 z
            exact B1393 (w_L_law_18 xs L Q n) hK18 _ _ _ hf
          · replace hf := hf.2 z
            refine g_iconst hX (v := (0 : Int32)) dL_law_1238 rfl ?_
            exact hR _ _ _ _ _ dL_law_1239 hf
        replace hf := hf.2
        by_cases z35 : ((xs x3.toNatClampNeg) &&& (63 : Int32)) = (35 : Int32)
        · replace hf := hf.1 z35
          refine g_tableIn hX 1240 dL_law_33 (by rw [z35]; decide) (by rw [z35]; decide) (by rw [z35] <;> rfl) (by decide) ?_
          refine g_aload_n hX 1 dL_law_1240 rfl rfl ?_
          refine g_aload_n hX 0 dL_law_1241 rfl rfl ?_
          refine g_iload_n hX 3 dL_law_1242 rfl rfl ?_
          refine g_iconst hX (v := (1 : Int32)) dL_law_1243 rfl ?_
          refine g_iadd hX dL_law_1244 ?_
          refine g_sld hX hS hf.1 dL_law_1245 ?_
          replace hf := hf.2
          refine g_aload_n hX 0 dL_law_1246 rfl rfl ?_
          refine g_iload_n hX 3 dL_law_1247 rfl rfl ?_
          refine g_iconst hX (v := (2 : Int32)) dL_law_1248 rfl ?_
          refine g_iadd hX dL_law_1249 ?_
          refine g_sld hX hS hf.1 dL_law_1250 ?_
          replace hf := hf.2
          refine g_callVWl hX (n := 2) (mt_C_element X.l hT.2 X.Γ _ _ _ _ _) hf q1378 q1379 q1380 q85 q1381 ⟨rfl, hy_C_element⟩ (by decide) (fc0 _) ff0 rfl rfl rfl (Nat.le_of_ble_eq_true rfl) dL_law_1251 (fun r142 χ143 hf hc143 => ?_)
          refine g_aload_n hX 2 dL_law_1254 rfl rfl ?_
          refine g_aload_n hX 0 dL_law_1255 rfl rfl ?_
          refine g_iload_n hX 3 dL_law_1256 rfl rfl ?_
          refine g_iconst hX (v := (1 : Int32)) dL_law_1257 rfl ?_
          refine g_iadd hX dL_law_1258 ?_
          refine g_sld hX hS hf.1 dL_law_1259 ?_
          replace hf := hf.2
          refine g_aload_n hX 0 dL_law_1260 rfl rfl ?_
          refine g_iload_n hX 3 dL_law_1261 rfl rfl ?_
          refine g_iconst hX (v := (2 : Int32)) dL_law_1262 rfl ?_
          refine g_iadd hX dL_law_1263 ?_
          refine g_sld hX hS hf.1 dL_law_1264 ?_
          replace hf := hf.2
          refine g_callVl hX (n := 2) (mt_M_element X.l X.Γ _ _ _ _ _) hf q1973 q1974 q1975 q89 q1976 ⟨rfl, hy_M_element⟩ (by decide) (fc40 _) ff40 rfl rfl rfl (Nat.le_of_ble_eq_true rfl) dL_law_1265 (fun r144 χ145 hf hc145 => ?_)
          refine g_lcmp hX dL_law_1268 ?_
          refine g_if_eq hX 1393 dL_law_1269 (by decide) (fun z => ?_) (fun z => ?_)
          · replace hf := hf.1 z
            exact B1393 (w_L_law_18 xs L Q n) hK18 _ _ _ hf
          · replace hf := hf.2 z
            refine g_iconst hX (v := (0 : Int32)) dL_law_1272 rfl ?_
            exact hR _ _ _ _ _ dL_law_1273 hf
        replace hf := hf.2
        by_cases z36 : ((xs x3.toNatClampNeg) &&& (63 : Int32)) = (36 : Int32)
        · replace hf := hf.1 z36
          refine g_tableIn hX 1274 dL_law_33 (by rw [z36]; decide) (by rw [z36]; decide) (by rw [z36] <;> rfl) (by decide) ?_
          refine g_aload_n hX 1 dL_law_1274 rfl rfl ?_
          refine g_aload_n hX 0 dL_law_1275 rfl rfl ?_
          refine g_iload_n hX 3 dL_law_1276 rfl rfl ?_
          refine g_iconst hX (v := (1 : Int32)) dL_law_1277 rfl ?_
          refine g_iadd hX dL_law_1278 ?_
          refine g_sld hX hS hf.1 dL_law_1279 ?_
          replace hf := hf.2
          refine g_aload_n hX 0 dL_law_1280 rfl rfl ?_
          refine g_iload_n hX 3 dL_law_1281 rfl rfl ?_
          refine g_iconst hX (v := (2 : Int32)) dL_law_1282 rfl ?_
          refine g_iadd hX dL_law_1283 ?_
          refine g_sld hX hS hf.1 dL_law_1284 ?_
          replace hf := hf.2
          refine g_aload_n hX 0 dL_law_1285 rfl rfl ?_
          refine g_iload_n hX 3 dL_law_1286 rfl rfl ?_
          refine g_iconst hX (v := (3 : Int32)) dL_law_1287 rfl ?_
          refine g_iadd hX dL_law_1288 ?_
          refine g_sld hX hS hf.1 dL_law_1289 ?_
          replace hf := hf.2
          refine g_aload_n hX 0 dL_law_1290 rfl rfl ?_
          refine g_iload_n hX 3 dL_law_1291 rfl rfl ?_
          refine g_iconst hX (v := (4 : Int32)) dL_law_1292 rfl ?_
          refine g_iadd hX dL_law_1293 ?_
          refine g_sld hX hS hf.1 dL_law_1294 ?_
          replace hf := hf.2
          refine g_aload_n hX 0 dL_law_1295 rfl rfl ?_
          refine g_iload_n hX 3 dL_law_1296 rfl rfl ?_
          refine g_iconst hX (v := (5 : Int32)) dL_law_1297 rfl ?_
          refine g_iadd hX dL_law_1298 ?_
          refine g_sld hX hS hf.1 dL_law_1299 ?_
          replace hf := hf.2
          refine g_callVWi hX (n := 5) (mt_C_shift X.l hT.2 X.Γ _ _ _ _ _ _ _ _) hf q1398 q1399 q1400 q85 q1401 ⟨rfl, hy_C_shift⟩ (by decide) (fc0 _) ff0 rfl rfl rfl (Nat.le_of_ble_eq_true rfl) dL_law_1300 (fun r146 χ147 hf hc147 => ?_)
          refine g_aload_n hX 2 dL_law_1303 rfl rfl ?_
          refine g_aload_n hX 0 dL_law_1304 rfl rfl ?_
          refine g_iload_n hX 3 dL_law_1305 rfl rfl ?_
          refine g_iconst hX (v := (1 : Int32)) dL_law_1306 rfl ?_
          refine g_iadd hX dL_law_1307 ?_
          refine g_sld hX hS hf.1 dL_law_1308 ?_
          replace hf := hf.2
          refine g_aload_n hX 0 dL_law_1309 rfl rfl ?_
          refine g_iload_n hX 3 dL_law_1310 rfl rfl ?_
          refine g_iconst hX (v := (2 : Int32)) dL_law_1311 rfl ?_
          refine g_iadd hX dL_law_1312 ?_
          refine g_sld hX hS hf.1 dL_law_1313 ?_
          replace hf := hf.2
          refine g_aload_n hX 0 dL_law_1314 rfl rfl ?_
          refine g_iload_n hX 3 dL_law_1315 rfl rfl ?_
          refine g_iconst hX (v := (3 : Int32)) dL_law_1316 rfl ?_
          refine g_iadd hX dL_law_1317 ?_
          refine g_sld hX hS hf.1 dL_law_1318 ?_
          replace hf := hf.2
          refine g_aload_n hX 0 dL_law_1319 rfl rfl ?_
          refine g_iload_n hX 3 dL_law_1320 rfl rfl ?_
          refine g_iconst hX (v := (4 : Int32)) dL_law_1321 rfl ?_
          refine g_iadd hX dL_law_1322 ?_
          refine g_sld hX hS hf.1 dL_law_1323 ?_
          replace hf := hf.2
          refine g_aload_n hX 0 dL_law_1324 rfl rfl ?_
          refine g_iload_n hX 3 dL_law_1325 rfl rfl ?_
          refine g_iconst hX (v := (5 : Int32)) dL_law_1326 rfl ?_
          refine g_iadd hX dL_law_1327 ?_
          refine g_sld hX hS hf.1 dL_law_1328 ?_
          replace hf := hf.2
          refine g_callVi hX (n := 5) (mt_M_shift X.l X.Γ _ _ _ _ _ _ _ _) hf q1977 q1978 q1979 q89 q1980 ⟨rfl, hy_M_shift⟩ (by decide) (fc40 _) ff40 rfl rfl rfl (Nat.le_of_ble_eq_true rfl) dL_law_1329 (fun r148 χ149 hf hc149 => ?_)
          refine g_icmp_eq hX 1393 dL_law_1332 (by decide) (fun z => ?_) (fun z => ?_)
          · replace hf := hf.1 z
            exact B1393 (w_L_law_18 xs L Q n) hK18 _ _ _ hf
          · replace hf := hf.2 z
            refine g_iconst hX (v := (0 : Int32)) dL_law_1335 rfl ?_
            exact hR _ _ _ _ _ dL_law_1336 hf
        replace hf := hf.2
        by_cases z37 : ((xs x3.toNatClampNeg) &&& (63 : Int32)) = (37 : Int32)
        · replace hf := hf.1 z37
          refine g_tableIn hX 1337 dL_law_33 (by rw [z37]; decide) (by rw [z37]; decide) (by rw [z37] <;> rfl) (by decide) ?_
          refine g_aload_n hX 1 dL_law_1337 rfl rfl ?_
          refine g_aload_n hX 0 dL_law_1338 rfl rfl ?_
          refine g_iload_n hX 3 dL_law_1339 rfl rfl ?_
          refine g_iconst hX (v := (1 : Int32)) dL_law_1340 rfl ?_
          refine g_iadd hX dL_law_1341 ?_
          refine g_sld hX hS hf.1 dL_law_1342 ?_
          replace hf := hf.2
          refine g_aload_n hX 0 dL_law_1343 rfl rfl ?_
          refine g_iload_n hX 3 dL_law_1344 rfl rfl ?_
          refine g_iconst hX (v := (2 : Int32)) dL_law_1345 rfl ?_
          refine g_iadd hX dL_law_1346 ?_
          refine g_sld hX hS hf.1 dL_law_1347 ?_
          replace hf := hf.2
          refine g_callVWi hX (n := 2) (mt_C_taken X.l hT.2 X.Γ _ _ _ _ _) hf q1432 q1433 q1434 q85 q1435 ⟨rfl, hy_C_taken⟩ (by decide) (fc0 _) ff0 rfl rfl rfl (Nat.le_of_ble_eq_true rfl) dL_law_1348 (fun r150 χ151 hf hc151 => ?_)
          refine g_aload_n hX 2 dL_law_1351 rfl rfl ?_
          refine g_aload_n hX 0 dL_law_1352 rfl rfl ?_
          refine g_iload_n hX 3 dL_law_1353 rfl rfl ?_
          refine g_iconst hX (v := (1 : Int32)) dL_law_1354 rfl ?_
          refine g_iadd hX dL_law_1355 ?_
          refine g_sld hX hS hf.1 dL_law_1356 ?_
          replace hf := hf.2
          refine g_aload_n hX 0 dL_law_1357 rfl rfl ?_
          refine g_iload_n hX 3 dL_law_1358 rfl rfl ?_
          refine g_iconst hX (v := (2 : Int32)) dL_law_1359 rfl ?_
          refine g_iadd hX dL_law_1360 ?_
          refine g_sld hX hS hf.1 dL_law_1361 ?_
          replace hf := hf.2
          refine g_callVi hX (n := 2) (mt_M_taken X.l X.Γ _ _ _ _ _) hf q1981 q1982 q1983 q89 q1984 ⟨rfl, hy_M_taken⟩ (by decide) (fc40 _) ff40 rfl rfl rfl (Nat.le_of_ble_eq_true rfl) dL_law_1362 (fun r152 χ153 hf hc153 => ?_)
          refine g_icmp_eq hX 1393 dL_law_1365 (by decide) (fun z => ?_) (fun z => ?_)
          · replace hf := hf.1 z
            exact B1393 (w_L_law_18 xs L Q n) hK18 _ _ _ hf
          · replace hf := hf.2 z
            refine g_iconst hX (v := (0 : Int32)) dL_law_1368 rfl ?_
            exact hR _ _ _ _ _ dL_law_1369 hf
        replace hf := hf.2
        by_cases z38 : ((xs x3.toNatClampNeg) &&& (63 : Int32)) = (38 : Int32)
        · replace hf := hf.1 z38
          refine g_tableIn hX 1370 dL_law_33 (by rw [z38]; decide) (by rw [z38]; decide) (by rw [z38] <;> rfl) (by decide) ?_
          refine g_aload_n hX 1 dL_law_1370 rfl rfl ?_
          refine g_aload_n hX 0 dL_law_1371 rfl rfl ?_
          refine g_iload_n hX 3 dL_law_1372 rfl rfl ?_
          refine g_iconst hX (v := (1 : Int32)) dL_law_1373 rfl ?_
          refine g_iadd hX dL_law_1374 ?_
          refine g_sld hX hS hf.1 dL_law_1375 ?_
          replace hf := hf.2
          refine g_callVi hX (n := 1) (mt_C_count X.l X.Γ _ _ _ _) hf q1487 q1488 q1489 q85 q1490 ⟨rfl, hy_C_count⟩ (by decide) (fc0 _) ff0 rfl rfl rfl (Nat.le_of_ble_eq_true rfl) dL_law_1376 (fun r154 χ155 hf hc155 => ?_)
          refine g_aload_n hX 2 dL_law_1379 rfl rfl ?_
          refine g_aload_n hX 0 dL_law_1380 rfl rfl ?_
          refine g_iload_n hX 3 dL_law_1381 rfl rfl ?_
          refine g_iconst hX (v := (1 : Int32)) dL_law_1382 rfl ?_
          refine g_iadd hX dL_law_1383 ?_
          refine g_sld hX hS hf.1 dL_law_1384 ?_
          replace hf := hf.2
          refine g_callVi hX (n := 1) (mt_M_count X.l X.Γ _ _ _ _) hf q1992 q1993 q1994 q89 q1995 ⟨rfl, hy_M_count⟩ (by decide) (fc40 _) ff40 rfl rfl rfl (Nat.le_of_ble_eq_true rfl) dL_law_1385 (fun r156 χ157 hf hc157 => ?_)
          refine g_icmp_eq hX 1393 dL_law_1388 (by decide) (fun z => ?_) (fun z => ?_)
          · replace hf := hf.1 z
            exact B1393 (w_L_law_18 xs L Q n) hK18 _ _ _ hf
          · replace hf := hf.2 z
            refine g_iconst hX (v := (0 : Int32)) dL_law_1391 rfl ?_
            exact hR _ _ _ _ _ dL_law_1392 hf
        replace hf := hf.2
        replace hf := hf z0 z1 z2 z3 z4 z5 z6 z7 z8 z9 z10 z11 z12 z13 z14 z15 z16 z17 z18 z19 z20 z21 z22 z23 z24 z25 z26 z27 z28 z29 z30 z31 z32 z33 z34 z35 z36 z37 z38
        refine g_tableOut hX 1393 dL_law_33 (tb_out (fun v h1 h2 => ?_)) (by decide) ?_
        · have h3 : v = 0 ∨ v = 1 ∨ v = 2 ∨ v = 3 ∨ v = 4 ∨ v = 5 ∨ v = 6 ∨ v = 7 ∨ v = 8 ∨ v = 9 ∨ v = 10 ∨ v = 11 ∨ v = 12 ∨ v = 13 ∨ v = 14 ∨ v = 15 ∨ v = 16 ∨ v = 17 ∨ v = 18 ∨ v = 19 ∨ v = 20 ∨ v = 21 ∨ v = 22 ∨ v = 23 ∨ v = 24 ∨ v = 25 ∨ v = 26 ∨ v = 27 ∨ v = 28 ∨ v = 29 ∨ v = 30 ∨ v = 31 ∨ v = 32 ∨ v = 33 ∨ v = 34 ∨ v = 35 ∨ v = 36 ∨ v = 37 ∨ v = 38 := by omega
          rcases h3 with rfl | rfl | rfl | rfl | rfl | rfl | rfl | rfl | rfl | rfl | rfl | rfl | rfl | rfl | rfl | rfl | rfl | rfl | rfl | rfl | rfl | rfl | rfl | rfl | rfl | rfl | rfl | rfl | rfl | rfl | rfl | rfl | rfl | rfl | rfl | rfl | rfl | rfl | rfl
          · exact z0
          · exact z1
          · exact z2
          · exact z3
          · exact z4
          · exact z5
          · exact z6
          · exact z7
          · exact z8
          · exact z9
          · exact z10
          · exact z11
          · exact z12
          · exact z13
          · exact z14
          · exact z15
          · exact z16
          · exact z17
          · exact z18
          · exact z19
          · exact z20
          · exact z21
          · exact z22
          · exact z23
          · exact z24
          · exact z25
          · exact z26
          · exact z27
          · exact z28
          · exact z29
          · exact z30
          · exact z31
          · exact z32
          · exact z33
          · exact z34
          · exact z35
          · exact z36
          · exact z37
          · exact z38
        exact B1393 (w_L_law_18 xs L Q n) hK18 _ _ _ hf
  unfold w_L_law at hf
  refine g_iconst hX (v := (0 : Int32)) dL_law_16 rfl ?_
  refine g_istore_n hX dL_law_17 rfl (by decide) rfl ?_
  obtain ⟨n0, hf⟩ := hf
  refine g_sub [3, 2, 1, 0] rfl ?_
  exact B18 n0 _ _ _ hf

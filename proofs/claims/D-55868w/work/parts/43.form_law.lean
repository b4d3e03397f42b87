/-! wp formulas (by program) -/
set_option maxRecDepth 100000
/-- UnheardBellsLaw law([I)Z @0 -/
theorem gL_law_0 (G : JG) {Rt : JRt} (r_0 : Option Nat) {H : JHp} (h :
  ∃ a1 : Nat, (some H.2.1) = some a1 ∧ /- X0_init -/ ∃ H2 : JHp, jok (jprog G) 15 [jR (some H.2.1)] (jnew H (jO 0 [jR none, jR none, jR none, jR none, jI 0, jI 0, jR none, jR none]) 8) (.inl none) H2 ∧
  ∃ a3 : Nat, (some H2.2.1) = some a3 ∧ /- X3_init -/ ∃ H4 : JHp, jok (jprog G) 16 [jR (some H2.2.1)] (jnew H2 (jO 3 [jI 0, jI 0, jI 0, jI 0, jI 0, jR none, jR none, jR none, jR none, jR none, jR none, jR none, jI 0, jI 0, jI 0, jI 0, jI 0, jI 0]) 18) (.inl none) H4 ∧
  jwp (jprog G) 394 Rt 18 [some (jR r_0), some (jR (some H.2.1)), some (jR (some H2.2.1)), some (jI 0), none, none, none, none] [] H4) :
  jwp (jprog G) 394 Rt 0 [some (jR r_0), none, none, none, none, none, none, none] [] H :=
  junf_wp (jprog_nf G) (stop := jmem [18, 188, 211, 244, 277, 310, 343, 386, 409, 422, 435, 448, 481, 514, 527, 540, 573, 596, 619, 642, 675, 688, 711, 734, 757, 770, 793, 806, 829, 843, 868, 891, 904, 945, 988, 1001, 1014, 1027]) (pL_law G) 4000 _ _ _ _ h
/-- UnheardBellsLaw law([I)Z @18 -/
theorem gL_law_18 (G : JG) {Rt : JRt} (r_0 : Option Nat) (r_1 : Option Nat) (r_2 : Option Nat) (i_3 : Int32) (q_4 : Option JVal) (q_5 : Option JVal) (q_6 : Option JVal) (q_7 : Option JVal) {H : JHp} (h :
  ∃ (a1 : Nat) (A2 : vp_A), r_0 = some a1 ∧ jar H a1 0 A2 ∧
  (((nI A2.1) - (4 : Int32)) < i_3 →
    jbool (1 : Int32) ∧ Rt (.inl (some (jI 1))) H) ∧
  (¬ ((nI A2.1) - (4 : Int32)) < i_3 →
    ∃ (a3 n4 : Nat) (f5 : Nat → Int32), r_0 = some a3 ∧ jar H a3 0 (aI n4 f5) ∧ vp_in i_3 n4 ∧
    (((f5 (i_3).toNatClampNeg) &&& (63 : Int32)) = 0 → jwp (jprog G) 394 Rt 188 [some (jR r_0), some (jR r_1), some (jR r_2), some (jI i_3), q_4, q_5, q_6, q_7] [] H) ∧
    (¬ ((f5 (i_3).toNatClampNeg) &&& (63 : Int32)) = 0 → (((f5 (i_3).toNatClampNeg) &&& (63 : Int32)) = 1 → jwp (jprog G) 394 Rt 211 [some (jR r_0), some (jR r_1), some (jR r_2), some (jI i_3), q_4, q_5, q_6, q_7] [] H) ∧
    (¬ ((f5 (i_3).toNatClampNeg) &&& (63 : Int32)) = 1 → (((f5 (i_3).toNatClampNeg) &&& (63 : Int32)) = 2 → jwp (jprog G) 394 Rt 244 [some (jR r_0), some (jR r_1), some (jR r_2), some (jI i_3), q_4, q_5, q_6, q_7] [] H) ∧
    (¬ ((f5 (i_3).toNatClampNeg) &&& (63 : Int32)) = 2 → (((f5 (i_3).toNatClampNeg) &&& (63 : Int32)) = 3 → jwp (jprog G) 394 Rt 277 [some (jR r_0), some (jR r_1), some (jR r_2), some (jI i_3), q_4, q_5, q_6, q_7] [] H) ∧
    (¬ ((f5 (i_3).toNatClampNeg) &&& (63 : Int32)) = 3 → (((f5 (i_3).toNatClampNeg) &&& (63 : Int32)) = 4 → jwp (jprog G) 394 Rt 310 [some (jR r_0), some (jR r_1), some (jR r_2), some (jI i_3), q_4, q_5, q_6, q_7] [] H) ∧
    (¬ ((f5 (i_3).toNatClampNeg) &&& (63 : Int32)) = 4 → (((f5 (i_3).toNatClampNeg) &&& (63 : Int32)) = 5 → jwp (jprog G) 394 Rt 343 [some (jR r_0), some (jR r_1), some (jR r_2), some (jI i_3), q_4, q_5, q_6, q_7] [] H) ∧
    (¬ ((f5 (i_3).toNatClampNeg) &&& (63 : Int32)) = 5 → (((f5 (i_3).toNatClampNeg) &&& (63 : Int32)) = 6 → jwp (jprog G) 394 Rt 386 [some (jR r_0), some (jR r_1), some (jR r_2), some (jI i_3), q_4, q_5, q_6, q_7] [] H) ∧
    (¬ ((f5 (i_3).toNatClampNeg) &&& (63 : Int32)) = 6 → (((f5 (i_3).toNatClampNeg) &&& (63 : Int32)) = 7 → jwp (jprog G) 394 Rt 409 [some (jR r_0), some (jR r_1), some (jR r_2), some (jI i_3), q_4, q_5, q_6, q_7] [] H) ∧
    (¬ ((f5 (i_3).toNatClampNeg) &&& (63 : Int32)) = 7 → (((f5 (i_3).toNatClampNeg) &&& (63 : Int32)) = 8 → jwp (jprog G) 394 Rt 422 [some (jR r_0), some (jR r_1), some (jR r_2), some (jI i_3), q_4, q_5, q_6, q_7] [] H) ∧
    (¬ ((f5 (i_3).toNatClampNeg) &&& (63 : Int32)) = 8 → (((f5 (i_3).toNatClampNeg) &&& (63 : Int32)) = 9 → jwp (jprog G) 394 Rt 435 [some (jR r_0), some (jR r_1), some (jR r_2), some (jI i_3), q_4, q_5, q_6, q_7] [] H) ∧
    (¬ ((f5 (i_3).toNatClampNeg) &&& (63 : Int32)) = 9 → (((f5 (i_3).toNatClampNeg) &&& (63 : Int32)) = 10 → jwp (jprog G) 394 Rt 448 [some (jR r_0), some (jR r_1), some (jR r_2), some (jI i_3), q_4, q_5, q_6, q_7] [] H) ∧
    (¬ ((f5 (i_3).toNatClampNeg) &&& (63 : Int32)) = 10 → (((f5 (i_3).toNatClampNeg) &&& (63 : Int32)) = 11 → jwp (jprog G) 394 Rt 481 [some (jR r_0), some (jR r_1), some (jR r_2), some (jI i_3), q_4, q_5, q_6, q_7] [] H) ∧
    (¬ ((f5 (i_3).toNatClampNeg) &&& (63 : Int32)) = 11 → (((f5 (i_3).toNatClampNeg) &&& (63 : Int32)) = 12 → jwp (jprog G) 394 Rt 514 [some (jR r_0), some (jR r_1), some (jR r_2), some (jI i_3), q_4, q_5, q_6, q_7] [] H) ∧
    (¬ ((f5 (i_3).toNatClampNeg) &&& (63 : Int32)) = 12 → (((f5 (i_3).toNatClampNeg) &&& (63 : Int32)) = 13 → jwp (jprog G) 394 Rt 527 [some (jR r_0), some (jR r_1), some (jR r_2), some (jI i_3), q_4, q_5, q_6, q_7] [] H) ∧
    (¬ ((f5 (i_3).toNatClampNeg) &&& (63 : Int32)) = 13 → (((f5 (i_3).toNatClampNeg) &&& (63 : Int32)) = 14 → jwp (jprog G) 394 Rt 540 [some (jR r_0), some (jR r_1), some (jR r_2), some (jI i_3), q_4, q_5, q_6, q_7] [] H) ∧
    (¬ ((f5 (i_3).toNatClampNeg) &&& (63 : Int32)) = 14 → (((f5 (i_3).toNatClampNeg) &&& (63 : Int32)) = 15 → jwp (jprog G) 394 Rt 573 [some (jR r_0), some (jR r_1), some (jR r_2), some (jI i_3), q_4, q_5, q_6, q_7] [] H) ∧
    (¬ ((f5 (i_3).toNatClampNeg) &&& (63 : Int32)) = 15 → (((f5 (i_3).toNatClampNeg) &&& (63 : Int32)) = 16 → jwp (jprog G) 394 Rt 596 [some (jR r_0), some (jR r_1), some (jR r_2), some (jI i_3), q_4, q_5, q_6, q_7] [] H) ∧
    (¬ ((f5 (i_3).toNatClampNeg) &&& (63 : Int32)) = 16 → (((f5 (i_3).toNatClampNeg) &&& (63 : Int32)) = 17 → jwp (jprog G) 394 Rt 619 [some (jR r_0), some (jR r_1), some (jR r_2), some (jI i_3), q_4, q_5, q_6, q_7] [] H) ∧
    (¬ ((f5 (i_3).toNatClampNeg) &&& (63 : Int32)) = 17 → (((f5 (i_3).toNatClampNeg) &&& (63 : Int32)) = 18 → jwp (jprog G) 394 Rt 642 [some (jR r_0), some (jR r_1), some (jR r_2), some (jI i_3), q_4, q_5, q_6, q_7] [] H) ∧
    (¬ ((f5 (i_3).toNatClampNeg) &&& (63 : Int32)) = 18 → (((f5 (i_3).toNatClampNeg) &&& (63 : Int32)) = 19 → jwp (jprog G) 394 Rt 675 [some (jR r_0), some (jR r_1), some (jR r_2), some (jI i_3), q_4, q_5, q_6, q_7] [] H) ∧
    (¬ ((f5 (i_3).toNatClampNeg) &&& (63 : Int32)) = 19 → (((f5 (i_3).toNatClampNeg) &&& (63 : Int32)) = 20 → jwp (jprog G) 394 Rt 688 [some (jR r_0), some (jR r_1), some (jR r_2), some (jI i_3), q_4, q_5, q_6, q_7] [] H) ∧
    (¬ ((f5 (i_3).toNatClampNeg) &&& (63 : Int32)) = 20 → (((f5 (i_3).toNatClampNeg) &&& (63 : Int32)) = 21 → jwp (jprog G) 394 Rt 711 [some (jR r_0), some (jR r_1), some (jR r_2), some (jI i_3), q_4, q_5, q_6, q_7] [] H) ∧
    (¬ ((f5 (i_3).toNatClampNeg) &&& (63 : Int32)) = 21 → (((f5 (i_3).toNatClampNeg) &&& (63 : Int32)) = 22 → jwp (jprog G) 394 Rt 734 [some (jR r_0), some (jR r_1), some (jR r_2), some (jI i_3), q_4, q_5, q_6, q_7] [] H) ∧
    (¬ ((f5 (i_3).toNatClampNeg) &&& (63 : Int32)) = 22 → (((f5 (i_3).toNatClampNeg) &&& (63 : Int32)) = 23 → jwp (jprog G) 394 Rt 757 [some (jR r_0), some (jR r_1), some (jR r_2), some (jI i_3), q_4, q_5, q_6, q_7] [] H) ∧
    (¬ ((f5 (i_3).toNatClampNeg) &&& (63 : Int32)) = 23 → (((f5 (i_3).toNatClampNeg) &&& (63 : Int32)) = 24 → jwp (jprog G) 394 Rt 770 [some (jR r_0), some (jR r_1), some (jR r_2), some (jI i_3), q_4, q_5, q_6, q_7] [] H) ∧
    (¬ ((f5 (i_3).toNatClampNeg) &&& (63 : Int32)) = 24 → (((f5 (i_3).toNatClampNeg) &&& (63 : Int32)) = 25 → jwp (jprog G) 394 Rt 793 [some (jR r_0), some (jR r_1), some (jR r_2), some (jI i_3), q_4, q_5, q_6, q_7] [] H) ∧
    (¬ ((f5 (i_3).toNatClampNeg) &&& (63 : Int32)) = 25 → (((f5 (i_3).toNatClampNeg) &&& (63 : Int32)) = 26 → jwp (jprog G) 394 Rt 806 [some (jR r_0), some (jR r_1), some (jR r_2), some (jI i_3), q_4, q_5, q_6, q_7] [] H) ∧
    (¬ ((f5 (i_3).toNatClampNeg) &&& (63 : Int32)) = 26 → (((f5 (i_3).toNatClampNeg) &&& (63 : Int32)) = 27 → jwp (jprog G) 394 Rt 829 [some (jR r_0), some (jR r_1), some (jR r_2), some (jI i_3), q_4, q_5, q_6, q_7] [] H) ∧
    (¬ ((f5 (i_3).toNatClampNeg) &&& (63 : Int32)) = 27 → (((f5 (i_3).toNatClampNeg) &&& (63 : Int32)) = 28 → jwp (jprog G) 394 Rt 868 [some (jR r_0), some (jR r_1), some (jR r_2), some (jI i_3), q_4, q_5, q_6, q_7] [] H) ∧
    (¬ ((f5 (i_3).toNatClampNeg) &&& (63 : Int32)) = 28 → (((f5 (i_3).toNatClampNeg) &&& (63 : Int32)) = 29 → jwp (jprog G) 394 Rt 891 [some (jR r_0), some (jR r_1), some (jR r_2), some (jI i_3), q_4, q_5, q_6, q_7] [] H) ∧
    (¬ ((f5 (i_3).toNatClampNeg) &&& (63 : Int32)) = 29 → (((f5 (i_3).toNatClampNeg) &&& (63 : Int32)) = 30 → jwp (jprog G) 394 Rt 904 [some (jR r_0), some (jR r_1), some (jR r_2), some (jI i_3), q_4, q_5, q_6, q_7] [] H) ∧
    (¬ ((f5 (i_3).toNatClampNeg) &&& (63 : Int32)) = 30 → (((f5 (i_3).toNatClampNeg) &&& (63 : Int32)) = 31 → jwp (jprog G) 394 Rt 945 [some (jR r_0), some (jR r_1), some (jR r_2), some (jI i_3), q_4, q_5, q_6, q_7] [] H) ∧
    (¬ ((f5 (i_3).toNatClampNeg) &&& (63 : Int32)) = 31 → (((f5 (i_3).toNatClampNeg) &&& (63 : Int32)) = 32 → jwp (jprog G) 394 Rt 988 [some (jR r_0), some (jR r_1), some (jR r_2), some (jI i_3), q_4, q_5, q_6, q_7] [] H) ∧
    (¬ ((f5 (i_3).toNatClampNeg) &&& (63 : Int32)) = 32 → (((f5 (i_3).toNatClampNeg) &&& (63 : Int32)) = 33 → jwp (jprog G) 394 Rt 1001 [some (jR r_0), some (jR r_1), some (jR r_2), some (jI i_3), q_4, q_5, q_6, q_7] [] H) ∧
    (¬ ((f5 (i_3).toNatClampNeg) &&& (63 : Int32)) = 33 → (((f5 (i_3).toNatClampNeg) &&& (63 : Int32)) = 34 → jwp (jprog G) 394 Rt 1014 [some (jR r_0), some (jR r_1), some (jR r_2), some (jI i_3), q_4, q_5, q_6, q_7] [] H) ∧
    (¬ ((f5 (i_3).toNatClampNeg) &&& (63 : Int32)) = 34 → jwp (jprog G) 394 Rt 1027 [some (jR r_0), some (jR r_1), some (jR r_2), some (jI i_3), q_4, q_5, q_6, q_7] [] H))))))))))))))))))))))))))))))))))))) :
  jwp (jprog G) 394 Rt 18 [some (jR r_0), some (jR r_1), some (jR r_2), some (jI i_3), q_4, q_5, q_6, q_7] [] H :=
  junf_wp (jprog_nf G) (stop := jmem [18, 188, 211, 244, 277, 310, 343, 386, 409, 422, 435, 448, 481, 514, 527, 540, 573, 596, 619, 642, 675, 688, 711, 734, 757, 770, 793, 806, 829, 843, 868, 891, 904, 945, 988, 1001, 1014, 1027]) (pL_law G) 4000 _ _ _ _ h
/-- UnheardBellsLaw law([I)Z @188 -/
theorem gL_law_188 (G : JG) {Rt : JRt} (r_0 : Option Nat) (r_1 : Option Nat) (r_2 : Option Nat) (i_3 : Int32) (q_4 : Option JVal) (q_5 : Option JVal) (q_6 : Option JVal) (q_7 : Option JVal) {H : JHp} (h :
  ∃ (a1 n2 : Nat) (f3 : Nat → Int32), r_0 = some a1 ∧ jar H a1 0 (aI n2 f3) ∧ vp_in (i_3 + (1 : Int32)) n2 ∧
  ∃ (a4 : Nat) (fs5 : List JVal), r_1 = some a4 ∧ job H a4 0 fs5 ∧ /- X0_rope -/ ∃ (x7 : Int32) (H6 : JHp), jok (jprog G) 392 [jR r_1, jI (f3 ((i_3 + (1 : Int32))).toNatClampNeg)] H (.inl (some (jI x7))) H6 ∧
  ∃ (a8 n9 : Nat) (f10 : Nat → Int32), r_0 = some a8 ∧ jar H6 a8 0 (aI n9 f10) ∧ vp_in (i_3 + (1 : Int32)) n9 ∧
  ∃ (a11 : Nat) (fs12 : List JVal), r_2 = some a11 ∧ job H6 a11 3 fs12 ∧ /- X3_rope -/ ∃ (x14 : Int32) (H13 : JHp), jok (jprog G) 393 [jR r_2, jI (f10 ((i_3 + (1 : Int32))).toNatClampNeg)] H6 (.inl (some (jI x14))) H13 ∧
  (x7 = x14 →
    jwp (jprog G) 394 Rt 1027 [some (jR r_0), some (jR r_1), some (jR r_2), some (jI i_3), q_4, q_5, q_6, q_7] [] H13) ∧
  (¬ x7 = x14 →
    jbool (0 : Int32) ∧ Rt (.inl (some (jI 0))) H13)) :
  jwp (jprog G) 394 Rt 188 [some (jR r_0), some (jR r_1), some (jR r_2), some (jI i_3), q_4, q_5, q_6, q_7] [] H :=
  junf_wp (jprog_nf G) (stop := jmem [18, 188, 211, 244, 277, 310, 343, 386, 409, 422, 435, 448, 481, 514, 527, 540, 573, 596, 619, 642, 675, 688, 711, 734, 757, 770, 793, 806, 829, 843, 868, 891, 904, 945, 988, 1001, 1014, 1027]) (pL_law G) 4000 _ _ _ _ h
/-- UnheardBellsLaw law([I)Z @211 -/
theorem gL_law_211 (G : JG) {Rt : JRt} (r_0 : Option Nat) (r_1 : Option Nat) (r_2 : Option Nat) (i_3 : Int32) (q_4 : Option JVal) (q_5 : Option JVal) (q_6 : Option JVal) (q_7 : Option JVal) {H : JHp} (h :
  ∃ (a1 n2 : Nat) (f3 : Nat → Int32), r_0 = some a1 ∧ jar H a1 0 (aI n2 f3) ∧ vp_in (i_3 + (1 : Int32)) n2 ∧
  ∃ (a4 n5 : Nat) (f6 : Nat → Int32), r_0 = some a4 ∧ jar H a4 0 (aI n5 f6) ∧ vp_in (i_3 + (2 : Int32)) n5 ∧
  ∃ (a7 : Nat) (fs8 : List JVal), r_1 = some a7 ∧ job H a7 0 fs8 ∧ /- X0_move -/ ∃ (x10 : Int32) (H9 : JHp), jok (jprog G) 390 [jR r_1, jI (f3 ((i_3 + (1 : Int32))).toNatClampNeg), jI (f6 ((i_3 + (2 : Int32))).toNatClampNeg)] H (.inl (some (jI x10))) H9 ∧
  ∃ (a11 n12 : Nat) (f13 : Nat → Int32), r_0 = some a11 ∧ jar H9 a11 0 (aI n12 f13) ∧ vp_in (i_3 + (1 : Int32)) n12 ∧
  ∃ (a14 n15 : Nat) (f16 : Nat → Int32), r_0 = some a14 ∧ jar H9 a14 0 (aI n15 f16) ∧ vp_in (i_3 + (2 : Int32)) n15 ∧
  ∃ (a17 : Nat) (fs18 : List JVal), r_2 = some a17 ∧ job H9 a17 3 fs18 ∧ /- X3_move -/ ∃ (x20 : Int32) (H19 : JHp), jok (jprog G) 391 [jR r_2, jI (f13 ((i_3 + (1 : Int32))).toNatClampNeg), jI (f16 ((i_3 + (2 : Int32))).toNatClampNeg)] H9 (.inl (some (jI x20))) H19 ∧
  (x10 = x20 →
    jwp (jprog G) 394 Rt 1027 [some (jR r_0), some (jR r_1), some (jR r_2), some (jI i_3), q_4, q_5, q_6, q_7] [] H19) ∧
  (¬ x10 = x20 →
    jbool (0 : Int32) ∧ Rt (.inl (some (jI 0))) H19)) :
  jwp (jprog G) 394 Rt 211 [some (jR r_0), some (jR r_1), some (jR r_2), some (jI i_3), q_4, q_5, q_6, q_7] [] H :=
  junf_wp (jprog_nf G) (stop := jmem [18, 188, 211, 244, 277, 310, 343, 386, 409, 422, 435, 448, 481, 514, 527, 540, 573, 596, 619, 642, 675, 688, 711, 734, 757, 770, 793, 806, 829, 843, 868, 891, 904, 945, 988, 1001, 1014, 1027]) (pL_law G) 4000 _ _ _ _ h
/-- UnheardBellsLaw law([I)Z @244 -/
theorem gL_law_244 (G : JG) {Rt : JRt} (r_0 : Option Nat) (r_1 : Option Nat) (r_2 : Option Nat) (i_3 : Int32) (q_4 : Option JVal) (q_5 : Option JVal) (q_6 : Option JVal) (q_7 : Option JVal) {H : JHp} (h :
  ∃ (a1 n2 : Nat) (f3 : Nat → Int32), r_0 = some a1 ∧ jar H a1 0 (aI n2 f3) ∧ vp_in (i_3 + (1 : Int32)) n2 ∧
  ∃ (a4 n5 : Nat) (f6 : Nat → Int32), r_0 = some a4 ∧ jar H a4 0 (aI n5 f6) ∧ vp_in (i_3 + (2 : Int32)) n5 ∧
  ∃ (a7 : Nat) (fs8 : List JVal), r_1 = some a7 ∧ job H a7 0 fs8 ∧ /- X0_sensor -/ ∃ (x10 : Int32) (H9 : JHp), jok (jprog G) 388 [jR r_1, jI (f3 ((i_3 + (1 : Int32))).toNatClampNeg), jI (f6 ((i_3 + (2 : Int32))).toNatClampNeg)] H (.inl (some (jI x10))) H9 ∧
  ∃ (a11 n12 : Nat) (f13 : Nat → Int32), r_0 = some a11 ∧ jar H9 a11 0 (aI n12 f13) ∧ vp_in (i_3 + (1 : Int32)) n12 ∧
  ∃ (a14 n15 : Nat) (f16 : Nat → Int32), r_0 = some a14 ∧ jar H9 a14 0 (aI n15 f16) ∧ vp_in (i_3 + (2 : Int32)) n15 ∧
  ∃ (a17 : Nat) (fs18 : List JVal), r_2 = some a17 ∧ job H9 a17 3 fs18 ∧ /- X3_sensor -/ ∃ (x20 : Int32) (H19 : JHp), jok (jprog G) 389 [jR r_2, jI (f13 ((i_3 + (1 : Int32))).toNatClampNeg), jI (f16 ((i_3 + (2 : Int32))).toNatClampNeg)] H9 (.inl (some (jI x20))) H19 ∧
  (x10 = x20 →
    jwp (jprog G) 394 Rt 1027 [some (jR r_0), some (jR r_1), some (jR r_2), some (jI i_3), q_4, q_5, q_6, q_7] [] H19) ∧
  (¬ x10 = x20 →
    jbool (0 : Int32) ∧ Rt (.inl (some (jI 0))) H19)) :
  jwp (jprog G) 394 Rt 244 [some (jR r_0), some (jR r_1), some (jR r_2), some (jI i_3), q_4, q_5, q_6, q_7] [] H :=
  junf_wp (jprog_nf G) (stop := jmem [18, 188, 211, 244, 277, 310, 343, 386, 409, 422, 435, 448, 481, 514, 527, 540, 573, 596, 619, 642, 675, 688, 711, 734, 757, 770, 793, 806, 829, 843, 868, 891, 904, 945, 988, 1001, 1014, 1027]) (pL_law G) 4000 _ _ _ _ h
/-- UnheardBellsLaw law([I)Z @277 -/
theorem gL_law_277 (G : JG) {Rt : JRt} (r_0 : Option Nat) (r_1 : Option Nat) (r_2 : Option Nat) (i_3 : Int32) (q_4 : Option JVal) (q_5 : Option JVal) (q_6 : Option JVal) (q_7 : Option JVal) {H : JHp} (h :
  ∃ (a1 n2 : Nat) (f3 : Nat → Int32), r_0 = some a1 ∧ jar H a1 0 (aI n2 f3) ∧ vp_in (i_3 + (1 : Int32)) n2 ∧
  ∃ (a4 n5 : Nat) (f6 : Nat → Int32), r_0 = some a4 ∧ jar H a4 0 (aI n5 f6) ∧ vp_in (i_3 + (2 : Int32)) n5 ∧
  ∃ (a7 : Nat) (fs8 : List JVal), r_1 = some a7 ∧ job H a7 0 fs8 ∧ /- X0_oil -/ ∃ (x10 : Int32) (H9 : JHp), jok (jprog G) 386 [jR r_1, jI (f3 ((i_3 + (1 : Int32))).toNatClampNeg), jI (f6 ((i_3 + (2 : Int32))).toNatClampNeg)] H (.inl (some (jI x10))) H9 ∧
  ∃ (a11 n12 : Nat) (f13 : Nat → Int32), r_0 = some a11 ∧ jar H9 a11 0 (aI n12 f13) ∧ vp_in (i_3 + (1 : Int32)) n12 ∧
  ∃ (a14 n15 : Nat) (f16 : Nat → Int32), r_0 = some a14 ∧ jar H9 a14 0 (aI n15 f16) ∧ vp_in (i_3 + (2 : Int32)) n15 ∧
  ∃ (a17 : Nat) (fs18 : List JVal), r_2 = some a17 ∧ job H9 a17 3 fs18 ∧ /- X3_oil -/ ∃ (x20 : Int32) (H19 : JHp), jok (jprog G) 387 [jR r_2, jI (f13 ((i_3 + (1 : Int32))).toNatClampNeg), jI (f16 ((i_3 + (2 : Int32))).toNatClampNeg)] H9 (.inl (some (jI x20))) H19 ∧
  (x10 = x20 →
    jwp (jprog G) 394 Rt 1027 [some (jR r_0), some (jR r_1), some (jR r_2), some (jI i_3), q_4, q_5, q_6, q_7] [] H19) ∧
  (¬ x10 = x20 →
    jbool (0 : Int32) ∧ Rt (.inl (some (jI 0))) H19)) :
  jwp (jprog G) 394 Rt 277 [some (jR r_0), some (jR r_1), some (jR r_2), some (jI i_3), q_4, q_5, q_6, q_7] [] H :=
  junf_wp (jprog_nf G) (stop := jmem [18, 188, 211, 244, 277, 310, 343, 386, 409, 422, 435, 448, 481, 514, 527, 540, 573, 596, 619, 642, 675, 688, 711, 734, 757, 770, 793, 806, 829, 843, 868, 891, 904, 945, 988, 1001, 1014, 1027]) (pL_law G) 4000 _ _ _ _ h
/-- UnheardBellsLaw law([I)Z @310 -/
theorem gL_law_310 (G : JG) {Rt : JRt} (r_0 : Option Nat) (r_1 : Option Nat) (r_2 : Option Nat) (i_3 : Int32) (q_4 : Option JVal) (q_5 : Option JVal) (q_6 : Option JVal) (q_7 : Option JVal) {H : JHp} (h :
  ∃ (a1 n2 : Nat) (f3 : Nat → Int32), r_0 = some a1 ∧ jar H a1 0 (aI n2 f3) ∧ vp_in (i_3 + (1 : Int32)) n2 ∧
  ∃ (a4 n5 : Nat) (f6 : Nat → Int32), r_0 = some a4 ∧ jar H a4 0 (aI n5 f6) ∧ vp_in (i_3 + (2 : Int32)) n5 ∧
  ∃ (a7 : Nat) (fs8 : List JVal), r_1 = some a7 ∧ job H a7 0 fs8 ∧ /- X0_ropeOf -/ ∃ (x10 : Int32) (H9 : JHp), jok (jprog G) 384 [jR r_1, jI (f3 ((i_3 + (1 : Int32))).toNatClampNeg), jI (f6 ((i_3 + (2 : Int32))).toNatClampNeg)] H (.inl (some (jI x10))) H9 ∧
  ∃ (a11 n12 : Nat) (f13 : Nat → Int32), r_0 = some a11 ∧ jar H9 a11 0 (aI n12 f13) ∧ vp_in (i_3 + (1 : Int32)) n12 ∧
  ∃ (a14 n15 : Nat) (f16 : Nat → Int32), r_0 = some a14 ∧ jar H9 a14 0 (aI n15 f16) ∧ vp_in (i_3 + (2 : Int32)) n15 ∧
  ∃ (a17 : Nat) (fs18 : List JVal), r_2 = some a17 ∧ job H9 a17 3 fs18 ∧ /- X3_ropeOf -/ ∃ (x20 : Int32) (H19 : JHp), jok (jprog G) 385 [jR r_2, jI (f13 ((i_3 + (1 : Int32))).toNatClampNeg), jI (f16 ((i_3 + (2 : Int32))).toNatClampNeg)] H9 (.inl (some (jI x20))) H19 ∧
  (x10 = x20 →
    jwp (jprog G) 394 Rt 1027 [some (jR r_0), some (jR r_1), some (jR r_2), some (jI i_3), q_4, q_5, q_6, q_7] [] H19) ∧
  (¬ x10 = x20 →
    jbool (0 : Int32) ∧ Rt (.inl (some (jI 0))) H19)) :
  jwp (jprog G) 394 Rt 310 [some (jR r_0), some (jR r_1), some (jR r_2), some (jI i_3), q_4, q_5, q_6, q_7] [] H :=
  junf_wp (jprog_nf G) (stop := jmem [18, 188, 211, 244, 277, 310, 343, 386, 409, 422, 435, 448, 481, 514, 527, 540, 573, 596, 619, 642, 675, 688, 711, 734, 757, 770, 793, 806, 829, 843, 868, 891, 904, 945, 988, 1001, 1014, 1027]) (pL_law G) 4000 _ _ _ _ h
/-- UnheardBellsLaw law([I)Z @343 -/
theorem gL_law_343 (G : JG) {Rt : JRt} (r_0 : Option Nat) (r_1 : Option Nat) (r_2 : Option Nat) (i_3 : Int32) (q_4 : Option JVal) (q_5 : Option JVal) (q_6 : Option JVal) (q_7 : Option JVal) {H : JHp} (h :
  ∃ (a1 n2 : Nat) (f3 : Nat → Int32), r_0 = some a1 ∧ jar H a1 0 (aI n2 f3) ∧ vp_in (i_3 + (1 : Int32)) n2 ∧
  ∃ (a4 n5 : Nat) (f6 : Nat → Int32), r_0 = some a4 ∧ jar H a4 0 (aI n5 f6) ∧ vp_in (i_3 + (2 : Int32)) n5 ∧
  ∃ (a7 n8 : Nat) (f9 : Nat → Int32), r_0 = some a7 ∧ jar H a7 0 (aI n8 f9) ∧ vp_in (i_3 + (3 : Int32)) n8 ∧
  ∃ (a10 : Nat) (fs11 : List JVal), r_1 = some a10 ∧ job H a10 0 fs11 ∧ /- X0_pull -/ ∃ (x13 : Int32) (H12 : JHp), jok (jprog G) 381 [jR r_1, jI (f3 ((i_3 + (1 : Int32))).toNatClampNeg), jI (f6 ((i_3 + (2 : Int32))).toNatClampNeg), jI (f9 ((i_3 + (3 : Int32))).toNatClampNeg)] H (.inl (some (jI x13))) H12 ∧
  ∃ (a14 n15 : Nat) (f16 : Nat → Int32), r_0 = some a14 ∧ jar H12 a14 0 (aI n15 f16) ∧ vp_in (i_3 + (1 : Int32)) n15 ∧
  ∃ (a17 n18 : Nat) (f19 : Nat → Int32), r_0 = some a17 ∧ jar H12 a17 0 (aI n18 f19) ∧ vp_in (i_3 + (2 : Int32)) n18 ∧
  ∃ (a20 n21 : Nat) (f22 : Nat → Int32), r_0 = some a20 ∧ jar H12 a20 0 (aI n21 f22) ∧ vp_in (i_3 + (3 : Int32)) n21 ∧
  ∃ (a23 : Nat) (fs24 : List JVal), r_2 = some a23 ∧ job H12 a23 3 fs24 ∧ /- X3_pull -/ ∃ (x26 : Int32) (H25 : JHp), jok (jprog G) 382 [jR r_2, jI (f16 ((i_3 + (1 : Int32))).toNatClampNeg), jI (f19 ((i_3 + (2 : Int32))).toNatClampNeg), jI (f22 ((i_3 + (3 : Int32))).toNatClampNeg)] H12 (.inl (some (jI x26))) H25 ∧
  (x13 = x26 →
    jwp (jprog G) 394 Rt 1027 [some (jR r_0), some (jR r_1), some (jR r_2), some (jI i_3), q_4, q_5, q_6, q_7] [] H25) ∧
  (¬ x13 = x26 →
    jbool (0 : Int32) ∧ Rt (.inl (some (jI 0))) H25)) :
  jwp (jprog G) 394 Rt 343 [some (jR r_0), some (jR r_1), some (jR r_2), some (jI i_3), q_4, q_5, q_6, q_7] [] H :=
  junf_wp (jprog_nf G) (stop := jmem [18, 188, 211, 244, 277, 310, 343, 386, 409, 422, 435, 448, 481, 514, 527, 540, 573, 596, 619, 642, 675, 688, 711, 734, 757, 770, 793, 806, 829, 843, 868, 891, 904, 945, 988, 1001, 1014, 1027]) (pL_law G) 4000 _ _ _ _ h
/-- UnheardBellsLaw law([I)Z @386 -/
theorem gL_law_386 (G : JG) {Rt : JRt} (r_0 : Option Nat) (r_1 : Option Nat) (r_2 : Option Nat) (i_3 : Int32) (q_4 : Option JVal) (q_5 : Option JVal) (q_6 : Option JVal) (q_7 : Option JVal) {H : JHp} (h :
  ∃ (a1 n2 : Nat) (f3 : Nat → Int32), r_0 = some a1 ∧ jar H a1 0 (aI n2 f3) ∧ vp_in (i_3 + (1 : Int32)) n2 ∧
  ∃ (a4 : Nat) (fs5 : List JVal), r_1 = some a4 ∧ job H a4 0 fs5 ∧ /- X0_cancel -/ ∃ (x7 : Int32) (H6 : JHp), jok (jprog G) 379 [jR r_1, jI (f3 ((i_3 + (1 : Int32))).toNatClampNeg)] H (.inl (some (jI x7))) H6 ∧
  ∃ (a8 n9 : Nat) (f10 : Nat → Int32), r_0 = some a8 ∧ jar H6 a8 0 (aI n9 f10) ∧ vp_in (i_3 + (1 : Int32)) n9 ∧
  ∃ (a11 : Nat) (fs12 : List JVal), r_2 = some a11 ∧ job H6 a11 3 fs12 ∧ /- X3_cancel -/ ∃ (x14 : Int32) (H13 : JHp), jok (jprog G) 380 [jR r_2, jI (f10 ((i_3 + (1 : Int32))).toNatClampNeg)] H6 (.inl (some (jI x14))) H13 ∧
  (x7 = x14 →
    jwp (jprog G) 394 Rt 1027 [some (jR r_0), some (jR r_1), some (jR r_2), some (jI i_3), q_4, q_5, q_6, q_7] [] H13) ∧
  (¬ x7 = x14 →
    jbool (0 : Int32) ∧ Rt (.inl (some (jI 0))) H13)) :
  jwp (jprog G) 394 Rt 386 [some (jR r_0), some (jR r_1), some (jR r_2), some (jI i_3), q_4, q_5, q_6, q_7] [] H :=
  junf_wp (jprog_nf G) (stop := jmem [18, 188, 211, 244, 277, 310, 343, 386, 409, 422, 435, 448, 481, 514, 527, 540, 573, 596, 619, 642, 675, 688, 711, 734, 757, 770, 793, 806, 829, 843, 868, 891, 904, 945, 988, 1001, 1014, 1027]) (pL_law G) 4000 _ _ _ _ h
/-- UnheardBellsLaw law([I)Z @409 -/
theorem gL_law_409 (G : JG) {Rt : JRt} (r_0 : Option Nat) (r_1 : Option Nat) (r_2 : Option Nat) (i_3 : Int32) (q_4 : Option JVal) (q_5 : Option JVal) (q_6 : Option JVal) (q_7 : Option JVal) {H : JHp} (h :
  ∃ (a1 : Nat) (fs2 : List JVal), r_1 = some a1 ∧ job H a1 0 fs2 ∧ /- X0_ring -/ ∃ (x4 : Int32) (H3 : JHp), jok (jprog G) 377 [jR r_1] H (.inl (some (jI x4))) H3 ∧
  ∃ (a5 : Nat) (fs6 : List JVal), r_2 = some a5 ∧ job H3 a5 3 fs6 ∧ /- X3_ring -/ ∃ (x8 : Int32) (H7 : JHp), jok (jprog G) 378 [jR r_2] H3 (.inl (some (jI x8))) H7 ∧
  (x4 = x8 →
    jwp (jprog G) 394 Rt 1027 [some (jR r_0), some (jR r_1), some (jR r_2), some (jI i_3), q_4, q_5, q_6, q_7] [] H7) ∧
  (¬ x4 = x8 →
    jbool (0 : Int32) ∧ Rt (.inl (some (jI 0))) H7)) :
  jwp (jprog G) 394 Rt 409 [some (jR r_0), some (jR r_1), some (jR r_2), some (jI i_3), q_4, q_5, q_6, q_7] [] H :=
  junf_wp (jprog_nf G) (stop := jmem [18, 188, 211, 244, 277, 310, 343, 386, 409, 422, 435, 448, 481, 514, 527, 540, 573, 596, 619, 642, 675, 688, 711, 734, 757, 770, 793, 806, 829, 843, 868, 891, 904, 945, 988, 1001, 1014, 1027]) (pL_law G) 4000 _ _ _ _ h
/-- UnheardBellsLaw law([I)Z @422 -/
theorem gL_law_422 (G : JG) {Rt : JRt} (r_0 : Option Nat) (r_1 : Option Nat) (r_2 : Option Nat) (i_3 : Int32) (q_4 : Option JVal) (q_5 : Option JVal) (q_6 : Option JVal) (q_7 : Option JVal) {H : JHp} (h :
  ∃ (a1 : Nat) (fs2 : List JVal), r_1 = some a1 ∧ job H a1 0 fs2 ∧ /- X0_hour -/ ∃ (x4 : Int32) (H3 : JHp), jok (jprog G) 375 [jR r_1] H (.inl (some (jI x4))) H3 ∧
  ∃ (a5 : Nat) (fs6 : List JVal), r_2 = some a5 ∧ job H3 a5 3 fs6 ∧ /- X3_hour -/ ∃ (x8 : Int32) (H7 : JHp), jok (jprog G) 376 [jR r_2] H3 (.inl (some (jI x8))) H7 ∧
  (x4 = x8 →
    jwp (jprog G) 394 Rt 1027 [some (jR r_0), some (jR r_1), some (jR r_2), some (jI i_3), q_4, q_5, q_6, q_7] [] H7) ∧
  (¬ x4 = x8 →
    jbool (0 : Int32) ∧ Rt (.inl (some (jI 0))) H7)) :
  jwp (jprog G) 394 Rt 422 [some (jR r_0), some (jR r_1), some (jR r_2), some (jI i_3), q_4, q_5, q_6, q_7] [] H :=
  junf_wp (jprog_nf G) (stop := jmem [18, 188, 211, 244, 277, 310, 343, 386, 409, 422, 435, 448, 481, 514, 527, 540, 573, 596, 619, 642, 675, 688, 711, 734, 757, 770, 793, 806, 829, 843, 868, 891, 904, 945, 988, 1001, 1014, 1027]) (pL_law G) 4000 _ _ _ _ h
/-- UnheardBellsLaw law([I)Z @435 -/
theorem gL_law_435 (G : JG) {Rt : JRt} (r_0 : Option Nat) (r_1 : Option Nat) (r_2 : Option Nat) (i_3 : Int32) (q_4 : Option JVal) (q_5 : Option JVal) (q_6 : Option JVal) (q_7 : Option JVal) {H : JHp} (h :
  ∃ (a1 : Nat) (fs2 : List JVal), r_1 = some a1 ∧ job H a1 0 fs2 ∧ /- X0_end -/ ∃ (x4 : Int32) (H3 : JHp), jok (jprog G) 373 [jR r_1] H (.inl (some (jI x4))) H3 ∧
  ∃ (a5 : Nat) (fs6 : List JVal), r_2 = some a5 ∧ job H3 a5 3 fs6 ∧ /- X3_end -/ ∃ (x8 : Int32) (H7 : JHp), jok (jprog G) 374 [jR r_2] H3 (.inl (some (jI x8))) H7 ∧
  (x4 = x8 →
    jwp (jprog G) 394 Rt 1027 [some (jR r_0), some (jR r_1), some (jR r_2), some (jI i_3), q_4, q_5, q_6, q_7] [] H7) ∧
  (¬ x4 = x8 →
    jbool (0 : Int32) ∧ Rt (.inl (some (jI 0))) H7)) :
  jwp (jprog G) 394 Rt 435 [some (jR r_0), some (jR r_1), some (jR r_2), some (jI i_3), q_4, q_5, q_6, q_7] [] H :=
  junf_wp (jprog_nf G) (stop := jmem [18, 188, 211, 244, 277, 310, 343, 386, 409, 422, 435, 448, 481, 514, 527, 540, 573, 596, 619, 642, 675, 688, 711, 734, 757, 770, 793, 806, 829, 843, 868, 891, 904, 945, 988, 1001, 1014, 1027]) (pL_law G) 4000 _ _ _ _ h
/-- UnheardBellsLaw law([I)Z @448 -/
theorem gL_law_448 (G : JG) {Rt : JRt} (r_0 : Option Nat) (r_1 : Option Nat) (r_2 : Option Nat) (i_3 : Int32) (q_4 : Option JVal) (q_5 : Option JVal) (q_6 : Option JVal) (q_7 : Option JVal) {H : JHp} (h :
  ∃ (a1 n2 : Nat) (f3 : Nat → Int32), r_0 = some a1 ∧ jar H a1 0 (aI n2 f3) ∧ vp_in (i_3 + (1 : Int32)) n2 ∧
  ∃ (a4 n5 : Nat) (f6 : Nat → Int32), r_0 = some a4 ∧ jar H a4 0 (aI n5 f6) ∧ vp_in (i_3 + (2 : Int32)) n5 ∧
  ∃ (a7 : Nat) (fs8 : List JVal), r_1 = some a7 ∧ job H a7 0 fs8 ∧ /- X0_waiting -/ ∃ (x10 : Int32) (H9 : JHp), jok (jprog G) 371 [jR r_1, jI (f3 ((i_3 + (1 : Int32))).toNatClampNeg), jI (f6 ((i_3 + (2 : Int32))).toNatClampNeg)] H (.inl (some (jI x10))) H9 ∧
  ∃ (a11 n12 : Nat) (f13 : Nat → Int32), r_0 = some a11 ∧ jar H9 a11 0 (aI n12 f13) ∧ vp_in (i_3 + (1 : Int32)) n12 ∧
  ∃ (a14 n15 : Nat) (f16 : Nat → Int32), r_0 = some a14 ∧ jar H9 a14 0 (aI n15 f16) ∧ vp_in (i_3 + (2 : Int32)) n15 ∧
  ∃ (a17 : Nat) (fs18 : List JVal), r_2 = some a17 ∧ job H9 a17 3 fs18 ∧ /- X3_waiting -/ ∃ (x20 : Int32) (H19 : JHp), jok (jprog G) 372 [jR r_2, jI (f13 ((i_3 + (1 : Int32))).toNatClampNeg), jI (f16 ((i_3 + (2 : Int32))).toNatClampNeg)] H9 (.inl (some (jI x20))) H19 ∧
  (x10 = x20 →
    jwp (jprog G) 394 Rt 1027 [some (jR r_0), some (jR r_1), some (jR r_2), some (jI i_3), q_4, q_5, q_6, q_7] [] H19) ∧
  (¬ x10 = x20 →
    jbool (0 : Int32) ∧ Rt (.inl (some (jI 0))) H19)) :
  jwp (jprog G) 394 Rt 448 [some (jR r_0), some (jR r_1), some (jR r_2), some (jI i_3), q_4, q_5, q_6, q_7] [] H :=
  junf_wp (jprog_nf G) (stop := jmem [18, 188, 211, 244, 277, 310, 343, 386, 409, 422, 435, 448, 481, 514, 527, 540, 573, 596, 619, 642, 675, 688, 711, 734, 757, 770, 793, 806, 829, 843, 868, 891, 904, 945, 988, 1001, 1014, 1027]) (pL_law G) 4000 _ _ _ _ h
/-- UnheardBellsLaw law([I)Z @481 -/
theorem gL_law_481 (G : JG) {Rt : JRt} (r_0 : Option Nat) (r_1 : Option Nat) (r_2 : Option Nat) (i_3 : Int32) (q_4 : Option JVal) (q_5 : Option JVal) (q_6 : Option JVal) (q_7 : Option JVal) {H : JHp} (h :
  ∃ (a1 n2 : Nat) (f3 : Nat → Int32), r_0 = some a1 ∧ jar H a1 0 (aI n2 f3) ∧ vp_in (i_3 + (1 : Int32)) n2 ∧
  ∃ (a4 n5 : Nat) (f6 : Nat → Int32), r_0 = some a4 ∧ jar H a4 0 (aI n5 f6) ∧ vp_in (i_3 + (2 : Int32)) n5 ∧
  ∃ (a7 : Nat) (fs8 : List JVal), r_1 = some a7 ∧ job H a7 0 fs8 ∧ /- X0_would -/ ∃ (x10 : Int32) (H9 : JHp), jok (jprog G) 365 [jR r_1, jI (f3 ((i_3 + (1 : Int32))).toNatClampNeg), jI (f6 ((i_3 + (2 : Int32))).toNatClampNeg)] H (.inl (some (jI x10))) H9 ∧
  ∃ (a11 n12 : Nat) (f13 : Nat → Int32), r_0 = some a11 ∧ jar H9 a11 0 (aI n12 f13) ∧ vp_in (i_3 + (1 : Int32)) n12 ∧
  ∃ (a14 n15 : Nat) (f16 : Nat → Int32), r_0 = some a14 ∧ jar H9 a14 0 (aI n15 f16) ∧ vp_in (i_3 + (2 : Int32)) n15 ∧
  ∃ (a17 : Nat) (fs18 : List JVal), r_2 = some a17 ∧ job H9 a17 3 fs18 ∧ /- X3_would -/ ∃ (x20 : Int32) (H19 : JHp), jok (jprog G) 366 [jR r_2, jI (f13 ((i_3 + (1 : Int32))).toNatClampNeg), jI (f16 ((i_3 + (2 : Int32))).toNatClampNeg)] H9 (.inl (some (jI x20))) H19 ∧
  (x10 = x20 →
    jwp (jprog G) 394 Rt 1027 [some (jR r_0), some (jR r_1), some (jR r_2), some (jI i_3), q_4, q_5, q_6, q_7] [] H19) ∧
  (¬ x10 = x20 →
    jbool (0 : Int32) ∧ Rt (.inl (some (jI 0))) H19)) :
  jwp (jprog G) 394 Rt 481 [some (jR r_0), some (jR r_1), some (jR r_2), some (jI i_3), q_4, q_5, q_6, q_7] [] H :=
  junf_wp (jprog_nf G) (stop := jmem [18, 188, 211, 244, 277, 310, 343, 386, 409, 422, 435, 448, 481, 514, 527, 540, 573, 596, 619, 642, 675, 688, 711, 734, 757, 770, 793, 806, 829, 843, 868, 891, 904, 945, 988, 1001, 1014, 1027]) (pL_law G) 4000 _ _ _ _ h
/-- UnheardBellsLaw law([I)Z @514 -/
theorem gL_law_514 (G : JG) {Rt : JRt} (r_0 : Option Nat) (r_1 : Option Nat) (r_2 : Option Nat) (i_3 : Int32) (q_4 : Option JVal) (q_5 : Option JVal) (q_6 : Option JVal) (q_7 : Option JVal) {H : JHp} (h :
  ∃ (a1 : Nat) (fs2 : List JVal), r_1 = some a1 ∧ job H a1 0 fs2 ∧ /- X0_forecast -/ ∃ (x4 : Int32) (H3 : JHp), jok (jprog G) 364 [jR r_1] H (.inl (some (jI x4))) H3 ∧
  ∃ (a5 : Nat) (fs6 : List JVal), r_2 = some a5 ∧ job H3 a5 3 fs6 ∧ /- X3_forecast -/ ∃ (x8 : Int32) (H7 : JHp), jok (jprog G) 362 [jR r_2] H3 (.inl (some (jI x8))) H7 ∧
  (x4 = x8 →
    jwp (jprog G) 394 Rt 1027 [some (jR r_0), some (jR r_1), some (jR r_2), some (jI i_3), q_4, q_5, q_6, q_7] [] H7) ∧
  (¬ x4 = x8 →
    jbool (0 : Int32) ∧ Rt (.inl (some (jI 0))) H7)) :
  jwp (jprog G) 394 Rt 514 [some (jR r_0), some (jR r_1), some (jR r_2), some (jI i_3), q_4, q_5, q_6, q_7] [] H :=
  junf_wp (jprog_nf G) (stop := jmem [18, 188, 211, 244, 277, 310, 343, 386, 409, 422, 435, 448, 481, 514, 527, 540, 573, 596, 619, 642, 675, 688, 711, 734, 757, 770, 793, 806, 829, 843, 868, 891, 904, 945, 988, 1001, 1014, 1027]) (pL_law G) 4000 _ _ _ _ h
/-- UnheardBellsLaw law([I)Z @527 -/
theorem gL_law_527 (G : JG) {Rt : JRt} (r_0 : Option Nat) (r_1 : Option Nat) (r_2 : Option Nat) (i_3 : Int32) (q_4 : Option JVal) (q_5 : Option JVal) (q_6 : Option JVal) (q_7 : Option JVal) {H : JHp} (h :
  ∃ (a1 : Nat) (fs2 : List JVal), r_1 = some a1 ∧ job H a1 0 fs2 ∧ /- X0_forecastAgain -/ ∃ (x4 : Int32) (H3 : JHp), jok (jprog G) 361 [jR r_1] H (.inl (some (jI x4))) H3 ∧
  ∃ (a5 : Nat) (fs6 : List JVal), r_2 = some a5 ∧ job H3 a5 3 fs6 ∧ /- X3_forecastAgain -/ ∃ (x8 : Int32) (H7 : JHp), jok (jprog G) 363 [jR r_2] H3 (.inl (some (jI x8))) H7 ∧
  (x4 = x8 →
    jwp (jprog G) 394 Rt 1027 [some (jR r_0), some (jR r_1), some (jR r_2), some (jI i_3), q_4, q_5, q_6, q_7] [] H7) ∧
  (¬ x4 = x8 →
    jbool (0 : Int32) ∧ Rt (.inl (some (jI 0))) H7)) :
  jwp (jprog G) 394 Rt 527 [some (jR r_0), some (jR r_1), some (jR r_2), some (jI i_3), q_4, q_5, q_6, q_7] [] H :=
  junf_wp (jprog_nf G) (stop := jmem [18, 188, 211, 244, 277, 310, 343, 386, 409, 422, 435, 448, 481, 514, 527, 540, 573, 596, 619, 642, 675, 688, 711, 734, 757, 770, 793, 806, 829, 843, 868, 891, 904, 945, 988, 1001, 1014, 1027]) (pL_law G) 4000 _ _ _ _ h
/-- UnheardBellsLaw law([I)Z @540 -/
theorem gL_law_540 (G : JG) {Rt : JRt} (r_0 : Option Nat) (r_1 : Option Nat) (r_2 : Option Nat) (i_3 : Int32) (q_4 : Option JVal) (q_5 : Option JVal) (q_6 : Option JVal) (q_7 : Option JVal) {H : JHp} (h :
  ∃ (a1 n2 : Nat) (f3 : Nat → Int32), r_0 = some a1 ∧ jar H a1 0 (aI n2 f3) ∧ vp_in (i_3 + (1 : Int32)) n2 ∧
  ∃ (a4 n5 : Nat) (f6 : Nat → Int32), r_0 = some a4 ∧ jar H a4 0 (aI n5 f6) ∧ vp_in (i_3 + (2 : Int32)) n5 ∧
  ∃ (a7 : Nat) (fs8 : List JVal), r_1 = some a7 ∧ job H a7 0 fs8 ∧ /- X0_answerOf -/ ∃ (x10 : Int32) (H9 : JHp), jok (jprog G) 359 [jR r_1, jI (f3 ((i_3 + (1 : Int32))).toNatClampNeg), jI (f6 ((i_3 + (2 : Int32))).toNatClampNeg)] H (.inl (some (jI x10))) H9 ∧
  ∃ (a11 n12 : Nat) (f13 : Nat → Int32), r_0 = some a11 ∧ jar H9 a11 0 (aI n12 f13) ∧ vp_in (i_3 + (1 : Int32)) n12 ∧
  ∃ (a14 n15 : Nat) (f16 : Nat → Int32), r_0 = some a14 ∧ jar H9 a14 0 (aI n15 f16) ∧ vp_in (i_3 + (2 : Int32)) n15 ∧
  ∃ (a17 : Nat) (fs18 : List JVal), r_2 = some a17 ∧ job H9 a17 3 fs18 ∧ /- X3_answerOf -/ ∃ (x20 : Int32) (H19 : JHp), jok (jprog G) 360 [jR r_2, jI (f13 ((i_3 + (1 : Int32))).toNatClampNeg), jI (f16 ((i_3 + (2 : Int32))).toNatClampNeg)] H9 (.inl (some (jI x20))) H19 ∧
  (x10 = x20 →
    jwp (jprog G) 394 Rt 1027 [some (jR r_0), some (jR r_1), some (jR r_2), some (jI i_3), q_4, q_5, q_6, q_7] [] H19) ∧
  (¬ x10 = x20 →
    jbool (0 : Int32) ∧ Rt (.inl (some (jI 0))) H19)) :
  jwp (jprog G) 394 Rt 540 [some (jR r_0), some (jR r_1), some (jR r_2), some (jI i_3), q_4, q_5, q_6, q_7] [] H :=
  junf_wp (jprog_nf G) (stop := jmem [18, 188, 211, 244, 277, 310, 343, 386, 409, 422, 435, 448, 481, 514, 527, 540, 573, 596, 619, 642, 675, 688, 711, 734, 757, 770, 793, 806, 829, 843, 868, 891, 904, 945, 988, 1001, 1014, 1027]) (pL_law G) 4000 _ _ _ _ h
/-- UnheardBellsLaw law([I)Z @573 -/
theorem gL_law_573 (G : JG) {Rt : JRt} (r_0 : Option Nat) (r_1 : Option Nat) (r_2 : Option Nat) (i_3 : Int32) (q_4 : Option JVal) (q_5 : Option JVal) (q_6 : Option JVal) (q_7 : Option JVal) {H : JHp} (h :
  ∃ (a1 n2 : Nat) (f3 : Nat → Int32), r_0 = some a1 ∧ jar H a1 0 (aI n2 f3) ∧ vp_in (i_3 + (1 : Int32)) n2 ∧
  ∃ (a4 : Nat) (fs5 : List JVal), r_1 = some a4 ∧ job H a4 0 fs5 ∧ /- X0_answered -/ ∃ (x7 : Int32) (H6 : JHp), jok (jprog G) 355 [jR r_1, jI (f3 ((i_3 + (1 : Int32))).toNatClampNeg)] H (.inl (some (jI x7))) H6 ∧
  ∃ (a8 n9 : Nat) (f10 : Nat → Int32), r_0 = some a8 ∧ jar H6 a8 0 (aI n9 f10) ∧ vp_in (i_3 + (1 : Int32)) n9 ∧
  ∃ (a11 : Nat) (fs12 : List JVal), r_2 = some a11 ∧ job H6 a11 3 fs12 ∧ /- X3_answered -/ ∃ (x14 : Int32) (H13 : JHp), jok (jprog G) 356 [jR r_2, jI (f10 ((i_3 + (1 : Int32))).toNatClampNeg)] H6 (.inl (some (jI x14))) H13 ∧
  (x7 = x14 →
    jwp (jprog G) 394 Rt 1027 [some (jR r_0), some (jR r_1), some (jR r_2), some (jI i_3), q_4, q_5, q_6, q_7] [] H13) ∧
  (¬ x7 = x14 →
    jbool (0 : Int32) ∧ Rt (.inl (some (jI 0))) H13)) :
  jwp (jprog G) 394 Rt 573 [some (jR r_0), some (jR r_1), some (jR r_2), some (jI i_3), q_4, q_5, q_6, q_7] [] H :=
  junf_wp (jprog_nf G) (stop := jmem [18, 188, 211, 244, 277, 310, 343, 386, 409, 422, 435, 448, 481, 514, 527, 540, 573, 596, 619, 642, 675, 688, 711, 734, 757, 770, 793, 806, 829, 843, 868, 891, 904, 945, 988, 1001, 1014, 1027]) (pL_law G) 4000 _ _ _ _ h
/-- UnheardBellsLaw law([I)Z @596 -/
theorem gL_law_596 (G : JG) {Rt : JRt} (r_0 : Option Nat) (r_1 : Option Nat) (r_2 : Option Nat) (i_3 : Int32) (q_4 : Option JVal) (q_5 : Option JVal) (q_6 : Option JVal) (q_7 : Option JVal) {H : JHp} (h :
  ∃ (a1 n2 : Nat) (f3 : Nat → Int32), r_0 = some a1 ∧ jar H a1 0 (aI n2 f3) ∧ vp_in (i_3 + (1 : Int32)) n2 ∧
  ∃ (a4 : Nat) (fs5 : List JVal), r_1 = some a4 ∧ job H a4 0 fs5 ∧ /- X0_guess -/ ∃ (x7 : Int32) (H6 : JHp), jok (jprog G) 353 [jR r_1, jI (f3 ((i_3 + (1 : Int32))).toNatClampNeg)] H (.inl (some (jI x7))) H6 ∧
  ∃ (a8 n9 : Nat) (f10 : Nat → Int32), r_0 = some a8 ∧ jar H6 a8 0 (aI n9 f10) ∧ vp_in (i_3 + (1 : Int32)) n9 ∧
  ∃ (a11 : Nat) (fs12 : List JVal), r_2 = some a11 ∧ job H6 a11 3 fs12 ∧ /- X3_guess -/ ∃ (x14 : Int32) (H13 : JHp), jok (jprog G) 351 [jR r_2, jI (f10 ((i_3 + (1 : Int32))).toNatClampNeg)] H6 (.inl (some (jI x14))) H13 ∧
  (x7 = x14 →
    jwp (jprog G) 394 Rt 1027 [some (jR r_0), some (jR r_1), some (jR r_2), some (jI i_3), q_4, q_5, q_6, q_7] [] H13) ∧
  (¬ x7 = x14 →
    jbool (0 : Int32) ∧ Rt (.inl (some (jI 0))) H13)) :
  jwp (jprog G) 394 Rt 596 [some (jR r_0), some (jR r_1), some (jR r_2), some (jI i_3), q_4, q_5, q_6, q_7] [] H :=
  junf_wp (jprog_nf G) (stop := jmem [18, 188, 211, 244, 277, 310, 343, 386, 409, 422, 435, 448, 481, 514, 527, 540, 573, 596, 619, 642, 675, 688, 711, 734, 757, 770, 793, 806, 829, 843, 868, 891, 904, 945, 988, 1001, 1014, 1027]) (pL_law G) 4000 _ _ _ _ h
/-- UnheardBellsLaw law([I)Z @619 -/
theorem gL_law_619 (G : JG) {Rt : JRt} (r_0 : Option Nat) (r_1 : Option Nat) (r_2 : Option Nat) (i_3 : Int32) (q_4 : Option JVal) (q_5 : Option JVal) (q_6 : Option JVal) (q_7 : Option JVal) {H : JHp} (h :
  ∃ (a1 n2 : Nat) (f3 : Nat → Int32), r_0 = some a1 ∧ jar H a1 0 (aI n2 f3) ∧ vp_in (i_3 + (1 : Int32)) n2 ∧
  ∃ (a4 : Nat) (fs5 : List JVal), r_1 = some a4 ∧ job H a4 0 fs5 ∧ /- X0_guessAgain -/ ∃ (x7 : Int32) (H6 : JHp), jok (jprog G) 349 [jR r_1, jI (f3 ((i_3 + (1 : Int32))).toNatClampNeg)] H (.inl (some (jI x7))) H6 ∧
  ∃ (a8 n9 : Nat) (f10 : Nat → Int32), r_0 = some a8 ∧ jar H6 a8 0 (aI n9 f10) ∧ vp_in (i_3 + (1 : Int32)) n9 ∧
  ∃ (a11 : Nat) (fs12 : List JVal), r_2 = some a11 ∧ job H6 a11 3 fs12 ∧ /- X3_guessAgain -/ ∃ (x14 : Int32) (H13 : JHp), jok (jprog G) 352 [jR r_2, jI (f10 ((i_3 + (1 : Int32))).toNatClampNeg)] H6 (.inl (some (jI x14))) H13 ∧
  (x7 = x14 →
    jwp (jprog G) 394 Rt 1027 [some (jR r_0), some (jR r_1), some (jR r_2), some (jI i_3), q_4, q_5, q_6, q_7] [] H13) ∧
  (¬ x7 = x14 →
    jbool (0 : Int32) ∧ Rt (.inl (some (jI 0))) H13)) :
  jwp (jprog G) 394 Rt 619 [some (jR r_0), some (jR r_1), some (jR r_2), some (jI i_3), q_4, q_5, q_6, q_7] [] H :=
  junf_wp (jprog_nf G) (stop := jmem [18, 188, 211, 244, 277, 310, 343, 386, 409, 422, 435, 448, 481, 514, 527, 540, 573, 596, 619, 642, 675, 688, 711, 734, 757, 770, 793, 806, 829, 843, 868, 891, 904, 945, 988, 1001, 1014, 1027]) (pL_law G) 4000 _ _ _ _ h
/-- UnheardBellsLaw law([I)Z @642 -/
theorem gL_law_642 (G : JG) {Rt : JRt} (r_0 : Option Nat) (r_1 : Option Nat) (r_2 : Option Nat) (i_3 : Int32) (q_4 : Option JVal) (q_5 : Option JVal) (q_6 : Option JVal) (q_7 : Option JVal) {H : JHp} (h :
  ∃ (a1 n2 : Nat) (f3 : Nat → Int32), r_0 = some a1 ∧ jar H a1 0 (aI n2 f3) ∧ vp_in (i_3 + (1 : Int32)) n2 ∧
  ∃ (a4 n5 : Nat) (f6 : Nat → Int32), r_0 = some a4 ∧ jar H a4 0 (aI n5 f6) ∧ vp_in (i_3 + (2 : Int32)) n5 ∧
  ∃ (a7 : Nat) (fs8 : List JVal), r_1 = some a7 ∧ job H a7 0 fs8 ∧ /- X0_parishOf -/ ∃ (x10 : Int32) (H9 : JHp), jok (jprog G) 346 [jR r_1, jI (f3 ((i_3 + (1 : Int32))).toNatClampNeg), jI (f6 ((i_3 + (2 : Int32))).toNatClampNeg)] H (.inl (some (jI x10))) H9 ∧
  ∃ (a11 n12 : Nat) (f13 : Nat → Int32), r_0 = some a11 ∧ jar H9 a11 0 (aI n12 f13) ∧ vp_in (i_3 + (1 : Int32)) n12 ∧
  ∃ (a14 n15 : Nat) (f16 : Nat → Int32), r_0 = some a14 ∧ jar H9 a14 0 (aI n15 f16) ∧ vp_in (i_3 + (2 : Int32)) n15 ∧
  ∃ (a17 : Nat) (fs18 : List JVal), r_2 = some a17 ∧ job H9 a17 3 fs18 ∧ /- X3_parishOf -/ ∃ (x20 : Int32) (H19 : JHp), jok (jprog G) 348 [jR r_2, jI (f13 ((i_3 + (1 : Int32))).toNatClampNeg), jI (f16 ((i_3 + (2 : Int32))).toNatClampNeg)] H9 (.inl (some (jI x20))) H19 ∧
  (x10 = x20 →
    jwp (jprog G) 394 Rt 1027 [some (jR r_0), some (jR r_1), some (jR r_2), some (jI i_3), q_4, q_5, q_6, q_7] [] H19) ∧
  (¬ x10 = x20 →
    jbool (0 : Int32) ∧ Rt (.inl (some (jI 0))) H19)) :
  jwp (jprog G) 394 Rt 642 [some (jR r_0), some (jR r_1), some (jR r_2), some (jI i_3), q_4, q_5, q_6, q_7] [] H :=
  junf_wp (jprog_nf G) (stop := jmem [18, 188, 211, 244, 277, 310, 343, 386, 409, 422, 435, 448, 481, 514, 527, 540, 573, 596, 619, 642, 675, 688, 711, 734, 757, 770, 793, 806, 829, 843, 868, 891, 904, 945, 988, 1001, 1014, 1027]) (pL_law G) 4000 _ _ _ _ h
/-- UnheardBellsLaw law([I)Z @675 -/
theorem gL_law_675 (G : JG) {Rt : JRt} (r_0 : Option Nat) (r_1 : Option Nat) (r_2 : Option Nat) (i_3 : Int32) (q_4 : Option JVal) (q_5 : Option JVal) (q_6 : Option JVal) (q_7 : Option JVal) {H : JHp} (h :
  ∃ (a1 : Nat) (fs2 : List JVal), r_1 = some a1 ∧ job H a1 0 fs2 ∧ /- X0_busiest -/ ∃ (x4 : Int32) (H3 : JHp), jok (jprog G) 339 [jR r_1] H (.inl (some (jI x4))) H3 ∧
  ∃ (a5 : Nat) (fs6 : List JVal), r_2 = some a5 ∧ job H3 a5 3 fs6 ∧ /- X3_busiest -/ ∃ (x8 : Int32) (H7 : JHp), jok (jprog G) 341 [jR r_2] H3 (.inl (some (jI x8))) H7 ∧
  (x4 = x8 →
    jwp (jprog G) 394 Rt 1027 [some (jR r_0), some (jR r_1), some (jR r_2), some (jI i_3), q_4, q_5, q_6, q_7] [] H7) ∧
  (¬ x4 = x8 →
    jbool (0 : Int32) ∧ Rt (.inl (some (jI 0))) H7)) :
  jwp (jprog G) 394 Rt 675 [some (jR r_0), some (jR r_1), some (jR r_2), some (jI i_3), q_4, q_5, q_6, q_7] [] H :=
  junf_wp (jprog_nf G) (stop := jmem [18, 188, 211, 244, 277, 310, 343, 386, 409, 422, 435, 448, 481, 514, 527, 540, 573, 596, 619, 642, 675, 688, 711, 734, 757, 770, 793, 806, 829, 843, 868, 891, 904, 945, 988, 1001, 1014, 1027]) (pL_law G) 4000 _ _ _ _ h
/-- UnheardBellsLaw law([I)Z @688 -/
theorem gL_law_688 (G : JG) {Rt : JRt} (r_0 : Option Nat) (r_1 : Option Nat) (r_2 : Option Nat) (i_3 : Int32) (q_4 : Option JVal) (q_5 : Option JVal) (q_6 : Option JVal) (q_7 : Option JVal) {H : JHp} (h :
  ∃ (a1 n2 : Nat) (f3 : Nat → Int32), r_0 = some a1 ∧ jar H a1 0 (aI n2 f3) ∧ vp_in (i_3 + (1 : Int32)) n2 ∧
  ∃ (a4 : Nat) (fs5 : List JVal), r_1 = some a4 ∧ job H a4 0 fs5 ∧ /- X0_rustiest -/ ∃ (x7 : Int32) (H6 : JHp), jok (jprog G) 334 [jR r_1, jI (f3 ((i_3 + (1 : Int32))).toNatClampNeg)] H (.inl (some (jI x7))) H6 ∧
  ∃ (a8 n9 : Nat) (f10 : Nat → Int32), r_0 = some a8 ∧ jar H6 a8 0 (aI n9 f10) ∧ vp_in (i_3 + (1 : Int32)) n9 ∧
  ∃ (a11 : Nat) (fs12 : List JVal), r_2 = some a11 ∧ job H6 a11 3 fs12 ∧ /- X3_rustiest -/ ∃ (x14 : Int32) (H13 : JHp), jok (jprog G) 335 [jR r_2, jI (f10 ((i_3 + (1 : Int32))).toNatClampNeg)] H6 (.inl (some (jI x14))) H13 ∧
  (x7 = x14 →
    jwp (jprog G) 394 Rt 1027 [some (jR r_0), some (jR r_1), some (jR r_2), some (jI i_3), q_4, q_5, q_6, q_7] [] H13) ∧
  (¬ x7 = x14 →
    jbool (0 : Int32) ∧ Rt (.inl (some (jI 0))) H13)) :
  jwp (jprog G) 394 Rt 688 [some (jR r_0), some (jR r_1), some (jR r_2), some (jI i_3), q_4, q_5, q_6, q_7] [] H :=
  junf_wp (jprog_nf G) (stop := jmem [18, 188, 211, 244, 277, 310, 343, 386, 409, 422, 435, 448, 481, 514, 527, 540, 573, 596, 619, 642, 675, 688, 711, 734, 757, 770, 793, 806, 829, 843, 868, 891, 904, 945, 988, 1001, 1014, 1027]) (pL_law G) 4000 _ _ _ _ h
/-- UnheardBellsLaw law([I)Z @711 -/
theorem gL_law_711 (G : JG) {Rt : JRt} (r_0 : Option Nat) (r_1 : Option Nat) (r_2 : Option Nat) (i_3 : Int32) (q_4 : Option JVal) (q_5 : Option JVal) (q_6 : Option JVal) (q_7 : Option JVal) {H : JHp} (h :
  ∃ (a1 n2 : Nat) (f3 : Nat → Int32), r_0 = some a1 ∧ jar H a1 0 (aI n2 f3) ∧ vp_in (i_3 + (1 : Int32)) n2 ∧
  ∃ (a4 : Nat) (fs5 : List JVal), r_1 = some a4 ∧ job H a4 0 fs5 ∧ /- X0_ranked -/ ∃ (x7 : Int32) (H6 : JHp), jok (jprog G) 329 [jR r_1, jI (f3 ((i_3 + (1 : Int32))).toNatClampNeg)] H (.inl (some (jI x7))) H6 ∧
  ∃ (a8 n9 : Nat) (f10 : Nat → Int32), r_0 = some a8 ∧ jar H6 a8 0 (aI n9 f10) ∧ vp_in (i_3 + (1 : Int32)) n9 ∧
  ∃ (a11 : Nat) (fs12 : List JVal), r_2 = some a11 ∧ job H6 a11 3 fs12 ∧ /- X3_ranked -/ ∃ (x14 : Int32) (H13 : JHp), jok (jprog G) 331 [jR r_2, jI (f10 ((i_3 + (1 : Int32))).toNatClampNeg)] H6 (.inl (some (jI x14))) H13 ∧
  (x7 = x14 →
    jwp (jprog G) 394 Rt 1027 [some (jR r_0), some (jR r_1), some (jR r_2), some (jI i_3), q_4, q_5, q_6, q_7] [] H13) ∧
  (¬ x7 = x14 →
    jbool (0 : Int32) ∧ Rt (.inl (some (jI 0))) H13)) :
  jwp (jprog G) 394 Rt 711 [some (jR r_0), some (jR r_1), some (jR r_2), some (jI i_3), q_4, q_5, q_6, q_7] [] H :=
  junf_wp (jprog_nf G) (stop := jmem [18, 188, 211, 244, 277, 310, 343, 386, 409, 422, 435, 448, 481, 514, 527, 540, 573, 596, 619, 642, 675, 688, 711, 734, 757, 770, 793, 806, 829, 843, 868, 891, 904, 945, 988, 1001, 1014, 1027]) (pL_law G) 4000 _ _ _ _ h
/-- UnheardBellsLaw law([I)Z @734 -/
theorem gL_law_734 (G : JG) {Rt : JRt} (r_0 : Option Nat) (r_1 : Option Nat) (r_2 : Option Nat) (i_3 : Int32) (q_4 : Option JVal) (q_5 : Option JVal) (q_6 : Option JVal) (q_7 : Option JVal) {H : JHp} (h :
  ∃ (a1 n2 : Nat) (f3 : Nat → Int32), r_0 = some a1 ∧ jar H a1 0 (aI n2 f3) ∧ vp_in (i_3 + (1 : Int32)) n2 ∧
  ∃ (a4 : Nat) (fs5 : List JVal), r_1 = some a4 ∧ job H a4 0 fs5 ∧ /- X0_append -/ ∃ (x7 : Int32) (H6 : JHp), jok (jprog G) 324 [jR r_1, jI (f3 ((i_3 + (1 : Int32))).toNatClampNeg)] H (.inl (some (jI x7))) H6 ∧
  ∃ (a8 n9 : Nat) (f10 : Nat → Int32), r_0 = some a8 ∧ jar H6 a8 0 (aI n9 f10) ∧ vp_in (i_3 + (1 : Int32)) n9 ∧
  ∃ (a11 : Nat) (fs12 : List JVal), r_2 = some a11 ∧ job H6 a11 3 fs12 ∧ /- X3_append -/ ∃ (x14 : Int32) (H13 : JHp), jok (jprog G) 325 [jR r_2, jI (f10 ((i_3 + (1 : Int32))).toNatClampNeg)] H6 (.inl (some (jI x14))) H13 ∧
  (x7 = x14 →
    jwp (jprog G) 394 Rt 1027 [some (jR r_0), some (jR r_1), some (jR r_2), some (jI i_3), q_4, q_5, q_6, q_7] [] H13) ∧
  (¬ x7 = x14 →
    jbool (0 : Int32) ∧ Rt (.inl (some (jI 0))) H13)) :
  jwp (jprog G) 394 Rt 734 [some (jR r_0), some (jR r_1), some (jR r_2), some (jI i_3), q_4, q_5, q_6, q_7] [] H :=
  junf_wp (jprog_nf G) (stop := jmem [18, 188, 211, 244, 277, 310, 343, 386, 409, 422, 435, 448, 481, 514, 527, 540, 573, 596, 619, 642, 675, 688, 711, 734, 757, 770, 793, 806, 829, 843, 868, 891, 904, 945, 988, 1001, 1014, 1027]) (pL_law G) 4000 _ _ _ _ h
/-- UnheardBellsLaw law([I)Z @757 -/
theorem gL_law_757 (G : JG) {Rt : JRt} (r_0 : Option Nat) (r_1 : Option Nat) (r_2 : Option Nat) (i_3 : Int32) (q_4 : Option JVal) (q_5 : Option JVal) (q_6 : Option JVal) (q_7 : Option JVal) {H : JHp} (h :
  ∃ (a1 : Nat) (fs2 : List JVal), r_1 = some a1 ∧ job H a1 0 fs2 ∧ /- X0_run -/ ∃ (x4 : Int32) (H3 : JHp), jok (jprog G) 292 [jR r_1] H (.inl (some (jI x4))) H3 ∧
  ∃ (a5 : Nat) (fs6 : List JVal), r_2 = some a5 ∧ job H3 a5 3 fs6 ∧ /- X3_run -/ ∃ (x8 : Int32) (H7 : JHp), jok (jprog G) 323 [jR r_2] H3 (.inl (some (jI x8))) H7 ∧
  (x4 = x8 →
    jwp (jprog G) 394 Rt 1027 [some (jR r_0), some (jR r_1), some (jR r_2), some (jI i_3), q_4, q_5, q_6, q_7] [] H7) ∧
  (¬ x4 = x8 →
    jbool (0 : Int32) ∧ Rt (.inl (some (jI 0))) H7)) :
  jwp (jprog G) 394 Rt 757 [some (jR r_0), some (jR r_1), some (jR r_2), some (jI i_3), q_4, q_5, q_6, q_7] [] H :=
  junf_wp (jprog_nf G) (stop := jmem [18, 188, 211, 244, 277, 310, 343, 386, 409, 422, 435, 448, 481, 514, 527, 540, 573, 596, 619, 642, 675, 688, 711, 734, 757, 770, 793, 806, 829, 843, 868, 891, 904, 945, 988, 1001, 1014, 1027]) (pL_law G) 4000 _ _ _ _ h
/-- UnheardBellsLaw law([I)Z @770 -/
theorem gL_law_770 (G : JG) {Rt : JRt} (r_0 : Option Nat) (r_1 : Option Nat) (r_2 : Option Nat) (i_3 : Int32) (q_4 : Option JVal) (q_5 : Option JVal) (q_6 : Option JVal) (q_7 : Option JVal) {H : JHp} (h :
  ∃ (a1 n2 : Nat) (f3 : Nat → Int32), r_0 = some a1 ∧ jar H a1 0 (aI n2 f3) ∧ vp_in (i_3 + (1 : Int32)) n2 ∧
  ∃ (a4 : Nat) (fs5 : List JVal), r_1 = some a4 ∧ job H a4 0 fs5 ∧ /- X0_tell -/ ∃ (x7 : Int32) (H6 : JHp), jok (jprog G) 222 [jR r_1, jI (f3 ((i_3 + (1 : Int32))).toNatClampNeg)] H (.inl (some (jI x7))) H6 ∧
  ∃ (a8 n9 : Nat) (f10 : Nat → Int32), r_0 = some a8 ∧ jar H6 a8 0 (aI n9 f10) ∧ vp_in (i_3 + (1 : Int32)) n9 ∧
  ∃ (a11 : Nat) (fs12 : List JVal), r_2 = some a11 ∧ job H6 a11 3 fs12 ∧ /- X3_tell -/ ∃ (x14 : Int32) (H13 : JHp), jok (jprog G) 225 [jR r_2, jI (f10 ((i_3 + (1 : Int32))).toNatClampNeg)] H6 (.inl (some (jI x14))) H13 ∧
  (x7 = x14 →
    jwp (jprog G) 394 Rt 1027 [some (jR r_0), some (jR r_1), some (jR r_2), some (jI i_3), q_4, q_5, q_6, q_7] [] H13) ∧
  (¬ x7 = x14 →
    jbool (0 : Int32) ∧ Rt (.inl (some (jI 0))) H13)) :
  jwp (jprog G) 394 Rt 770 [some (jR r_0), some (jR r_1), some (jR r_2), some (jI i_3), q_4, q_5, q_6, q_7] [] H :=
  junf_wp (jprog_nf G) (stop := jmem [18, 188, 211, 244, 277, 310, 343, 386, 409, 422, 435, 448, 481, 514, 527, 540, 573, 596, 619, 642, 675, 688, 711, 734, 757, 770, 793, 806, 829, 843, 868, 891, 904, 945, 988, 1001, 1014, 1027]) (pL_law G) 4000 _ _ _ _ h
/-- UnheardBellsLaw law([I)Z @793 -/
theorem gL_law_793 (G : JG) {Rt : JRt} (r_0 : Option Nat) (r_1 : Option Nat) (r_2 : Option Nat) (i_3 : Int32) (q_4 : Option JVal) (q_5 : Option JVal) (q_6 : Option JVal) (q_7 : Option JVal) {H : JHp} (h :
  ∃ (a1 : Nat) (fs2 : List JVal), r_1 = some a1 ∧ job H a1 0 fs2 ∧ /- X0_tellDay -/ ∃ (x4 : Int32) (H3 : JHp), jok (jprog G) 214 [jR r_1] H (.inl (some (jI x4))) H3 ∧
  ∃ (a5 : Nat) (fs6 : List JVal), r_2 = some a5 ∧ job H3 a5 3 fs6 ∧ /- X3_tellDay -/ ∃ (x8 : Int32) (H7 : JHp), jok (jprog G) 219 [jR r_2] H3 (.inl (some (jI x8))) H7 ∧
  (x4 = x8 →
    jwp (jprog G) 394 Rt 1027 [some (jR r_0), some (jR r_1), some (jR r_2), some (jI i_3), q_4, q_5, q_6, q_7] [] H7) ∧
  (¬ x4 = x8 →
    jbool (0 : Int32) ∧ Rt (.inl (some (jI 0))) H7)) :
  jwp (jprog G) 394 Rt 793 [some (jR r_0), some (jR r_1), some (jR r_2), some (jI i_3), q_4, q_5, q_6, q_7] [] H :=
  junf_wp (jprog_nf G) (stop := jmem [18, 188, 211, 244, 277, 310, 343, 386, 409, 422, 435, 448, 481, 514, 527, 540, 573, 596, 619, 642, 675, 688, 711, 734, 757, 770, 793, 806, 829, 843, 868, 891, 904, 945, 988, 1001, 1014, 1027]) (pL_law G) 4000 _ _ _ _ h
/-- UnheardBellsLaw law([I)Z @806 -/
theorem gL_law_806 (G : JG) {Rt : JRt} (r_0 : Option Nat) (r_1 : Option Nat) (r_2 : Option Nat) (i_3 : Int32) (q_4 : Option JVal) (q_5 : Option JVal) (q_6 : Option JVal) (q_7 : Option JVal) {H : JHp} (h :
  ∃ (a1 n2 : Nat) (f3 : Nat → Int32), r_0 = some a1 ∧ jar H a1 0 (aI n2 f3) ∧ vp_in (i_3 + (1 : Int32)) n2 ∧
  ∃ (a4 : Nat) (fs5 : List JVal), r_1 = some a4 ∧ job H a4 0 fs5 ∧ /- X0_character -/ ∃ (x7 : Int32) (H6 : JHp), jok (jprog G) 189 [jR r_1, jI (f3 ((i_3 + (1 : Int32))).toNatClampNeg)] H (.inl (some (jI x7))) H6 ∧
  ∃ (a8 n9 : Nat) (f10 : Nat → Int32), r_0 = some a8 ∧ jar H6 a8 0 (aI n9 f10) ∧ vp_in (i_3 + (1 : Int32)) n9 ∧
  ∃ (a11 : Nat) (fs12 : List JVal), r_2 = some a11 ∧ job H6 a11 3 fs12 ∧ /- X3_character -/ ∃ (x14 : Int32) (H13 : JHp), jok (jprog G) 190 [jR r_2, jI (f10 ((i_3 + (1 : Int32))).toNatClampNeg)] H6 (.inl (some (jI x14))) H13 ∧
  (x7 = x14 →
    jwp (jprog G) 394 Rt 1027 [some (jR r_0), some (jR r_1), some (jR r_2), some (jI i_3), q_4, q_5, q_6, q_7] [] H13) ∧
  (¬ x7 = x14 →
    jbool (0 : Int32) ∧ Rt (.inl (some (jI 0))) H13)) :
  jwp (jprog G) 394 Rt 806 [some (jR r_0), some (jR r_1), some (jR r_2), some (jI i_3), q_4, q_5, q_6, q_7] [] H :=
  junf_wp (jprog_nf G) (stop := jmem [18, 188, 211, 244, 277, 310, 343, 386, 409, 422, 435, 448, 481, 514, 527, 540, 573, 596, 619, 642, 675, 688, 711, 734, 757, 770, 793, 806, 829, 843, 868, 891, 904, 945, 988, 1001, 1014, 1027]) (pL_law G) 4000 _ _ _ _ h
/-- UnheardBellsLaw law([I)Z @829 -/
theorem gL_law_829 (G : JG) {Rt : JRt} (r_0 : Option Nat) (r_1 : Option Nat) (r_2 : Option Nat) (i_3 : Int32) (q_4 : Option JVal) (q_5 : Option JVal) (q_6 : Option JVal) (q_7 : Option JVal) {H : JHp} (h :
  ∃ (a1 n2 : Nat) (f3 : Nat → Int32), r_0 = some a1 ∧ jar H a1 0 (aI n2 f3) ∧ vp_in (i_3 + (1 : Int32)) n2 ∧
  ((f3 ((i_3 + (1 : Int32))).toNatClampNeg) = 0 →
    jwp (jprog G) 394 Rt 843 [some (jR r_0), some (jR r_1), some (jR r_2), some (jI i_3), q_4, q_5, q_6, q_7] [jI 0, jR r_1] H) ∧
  (¬ (f3 ((i_3 + (1 : Int32))).toNatClampNeg) = 0 →
    jwp (jprog G) 394 Rt 843 [some (jR r_0), some (jR r_1), some (jR r_2), some (jI i_3), q_4, q_5, q_6, q_7] [jI 1, jR r_1] H)) :
  jwp (jprog G) 394 Rt 829 [some (jR r_0), some (jR r_1), some (jR r_2), some (jI i_3), q_4, q_5, q_6, q_7] [] H :=
  junf_wp (jprog_nf G) (stop := jmem [18, 188, 211, 244, 277, 310, 343, 386, 409, 422, 435, 448, 481, 514, 527, 540, 573, 596, 619, 642, 675, 688, 711, 734, 757, 770, 793, 806, 829, 843, 868, 891, 904, 945, 988, 1001, 1014, 1027]) (pL_law G) 4000 _ _ _ _ h
/-- UnheardBellsLaw law([I)Z @843 -/
theorem gL_law_843 (G : JG) {Rt : JRt} (r_0 : Option Nat) (r_1 : Option Nat) (r_2 : Option Nat) (i_3 : Int32) (q_4 : Option JVal) (q_5 : Option JVal) (q_6 : Option JVal) (q_7 : Option JVal) (sr_0 : Option Nat) (si_1 : Int32) {H : JHp} (h :
  ∃ (a1 : Nat) (fs2 : List JVal), sr_0 = some a1 ∧ job H a1 0 fs2 ∧ /- X0_reason -/ ∃ (x4 : Int32) (H3 : JHp), jok (jprog G) 180 [jR sr_0, jI si_1] H (.inl (some (jI x4))) H3 ∧
  ∃ (a5 n6 : Nat) (f7 : Nat → Int32), r_0 = some a5 ∧ jar H3 a5 0 (aI n6 f7) ∧ vp_in (i_3 + (1 : Int32)) n6 ∧
  ((f7 ((i_3 + (1 : Int32))).toNatClampNeg) = 0 →
    ∃ (a8 : Nat) (fs9 : List JVal), r_2 = some a8 ∧ job H3 a8 3 fs9 ∧ /- X3_reason -/ ∃ (x11 : Int32) (H10 : JHp), jok (jprog G) 181 [jR r_2, jI 0] H3 (.inl (some (jI x11))) H10 ∧
    (x4 = x11 →
      jwp (jprog G) 394 Rt 1027 [some (jR r_0), some (jR r_1), some (jR r_2), some (jI i_3), q_4, q_5, q_6, q_7] [] H10) ∧
    (¬ x4 = x11 →
      jbool (0 : Int32) ∧ Rt (.inl (some (jI 0))) H10)) ∧
  (¬ (f7 ((i_3 + (1 : Int32))).toNatClampNeg) = 0 →
    ∃ (a12 : Nat) (fs13 : List JVal), r_2 = some a12 ∧ job H3 a12 3 fs13 ∧ /- X3_reason -/ ∃ (x15 : Int32) (H14 : JHp), jok (jprog G) 181 [jR r_2, jI 1] H3 (.inl (some (jI x15))) H14 ∧
    (x4 = x15 →
      jwp (jprog G) 394 Rt 1027 [some (jR r_0), some (jR r_1), some (jR r_2), some (jI i_3), q_4, q_5, q_6, q_7] [] H14) ∧
    (¬ x4 = x15 →
      jbool (0 : Int32) ∧ Rt (.inl (some (jI 0))) H14))) :
  jwp (jprog G) 394 Rt 843 [some (jR r_0), some (jR r_1), some (jR r_2), some (jI i_3), q_4, q_5, q_6, q_7] [jI si_1, jR sr_0] H :=
  junf_wp (jprog_nf G) (stop := jmem [18, 188, 211, 244, 277, 310, 343, 386, 409, 422, 435, 448, 481, 514, 527, 540, 573, 596, 619, 642, 675, 688, 711, 734, 757, 770, 793, 806, 829, 843, 868, 891, 904, 945, 988, 1001, 1014, 1027]) (pL_law G) 4000 _ _ _ _ h
/-- UnheardBellsLaw law([I)Z @868 -/
theorem gL_law_868 (G : JG) {Rt : JRt} (r_0 : Option Nat) (r_1 : Option Nat) (r_2 : Option Nat) (i_3 : Int32) (q_4 : Option JVal) (q_5 : Option JVal) (q_6 : Option JVal) (q_7 : Option JVal) {H : JHp} (h :
  ∃ (a1 n2 : Nat) (f3 : Nat → Int32), r_0 = some a1 ∧ jar H a1 0 (aI n2 f3) ∧ vp_in (i_3 + (1 : Int32)) n2 ∧
  ∃ (a4 : Nat) (fs5 : List JVal), r_1 = some a4 ∧ job H a4 0 fs5 ∧ /- X0_account -/ ∃ (x7 : Int32) (H6 : JHp), jok (jprog G) 177 [jR r_1, jI (f3 ((i_3 + (1 : Int32))).toNatClampNeg)] H (.inl (some (jI x7))) H6 ∧
  ∃ (a8 n9 : Nat) (f10 : Nat → Int32), r_0 = some a8 ∧ jar H6 a8 0 (aI n9 f10) ∧ vp_in (i_3 + (1 : Int32)) n9 ∧
  ∃ (a11 : Nat) (fs12 : List JVal), r_2 = some a11 ∧ job H6 a11 3 fs12 ∧ /- X3_account -/ ∃ (x14 : Int32) (H13 : JHp), jok (jprog G) 179 [jR r_2, jI (f10 ((i_3 + (1 : Int32))).toNatClampNeg)] H6 (.inl (some (jI x14))) H13 ∧
  (x7 = x14 →
    jwp (jprog G) 394 Rt 1027 [some (jR r_0), some (jR r_1), some (jR r_2), some (jI i_3), q_4, q_5, q_6, q_7] [] H13) ∧
  (¬ x7 = x14 →
    jbool (0 : Int32) ∧ Rt (.inl (some (jI 0))) H13)) :
  jwp (jprog G) 394 Rt 868 [some (jR r_0), some (jR r_1), some (jR r_2), some (jI i_3), q_4, q_5, q_6, q_7] [] H :=
  junf_wp (jprog_nf G) (stop := jmem [18, 188, 211, 244, 277, 310, 343, 386, 409, 422, 435, 448, 481, 514, 527, 540, 573, 596, 619, 642, 675, 688, 711, 734, 757, 770, 793, 806, 829, 843, 868, 891, 904, 945, 988, 1001, 1014, 1027]) (pL_law G) 4000 _ _ _ _ h
/-- UnheardBellsLaw law([I)Z @891 -/
theorem gL_law_891 (G : JG) {Rt : JRt} (r_0 : Option Nat) (r_1 : Option Nat) (r_2 : Option Nat) (i_3 : Int32) (q_4 : Option JVal) (q_5 : Option JVal) (q_6 : Option JVal) (q_7 : Option JVal) {H : JHp} (h :
  ∃ (a1 : Nat) (fs2 : List JVal), r_1 = some a1 ∧ job H a1 0 fs2 ∧ /- X0_isBalanced -/ ∃ (x4 : Int32) (H3 : JHp), jok (jprog G) 173 [jR r_1] H (.inl (some (jI x4))) H3 ∧
  ∃ (a5 : Nat) (fs6 : List JVal), r_2 = some a5 ∧ job H3 a5 3 fs6 ∧ /- X3_isBalanced -/ ∃ (x8 : Int32) (H7 : JHp), jok (jprog G) 174 [jR r_2] H3 (.inl (some (jI x8))) H7 ∧
  (x4 = x8 →
    jwp (jprog G) 394 Rt 1027 [some (jR r_0), some (jR r_1), some (jR r_2), some (jI i_3), q_4, q_5, q_6, q_7] [] H7) ∧
  (¬ x4 = x8 →
    jbool (0 : Int32) ∧ Rt (.inl (some (jI 0))) H7)) :
  jwp (jprog G) 394 Rt 891 [some (jR r_0), some (jR r_1), some (jR r_2), some (jI i_3), q_4, q_5, q_6, q_7] [] H :=
  junf_wp (jprog_nf G) (stop := jmem [18, 188, 211, 244, 277, 310, 343, 386, 409, 422, 435, 448, 481, 514, 527, 540, 573, 596, 619, 642, 675, 688, 711, 734, 757, 770, 793, 806, 829, 843, 868, 891, 904, 945, 988, 1001, 1014, 1027]) (pL_law G) 4000 _ _ _ _ h
/-- UnheardBellsLaw law([I)Z @904 -/
theorem gL_law_904 (G : JG) {Rt : JRt} (r_0 : Option Nat) (r_1 : Option Nat) (r_2 : Option Nat) (i_3 : Int32) (q_4 : Option JVal) (q_5 : Option JVal) (q_6 : Option JVal) (q_7 : Option JVal) {H : JHp} (h :
  ∃ (a1 : Nat) (fs2 : List JVal), r_1 = some a1 ∧ job H a1 0 fs2 ∧ /- X0_meanRust -/ ∃ (z4 : UInt64) (H3 : JHp), jok (jprog G) 120 [jR r_1] H (.inl (some (jD z4))) H3 ∧
  ∃ (a5 : Nat) (fs6 : List JVal), r_2 = some a5 ∧ job H3 a5 3 fs6 ∧ /- X3_meanRust -/ ∃ (z8 : UInt64) (H7 : JHp), jok (jprog G) 123 [jR r_2] H3 (.inl (some (jD z8))) H7 ∧
  ((Op.cmpValue (FP.dcmp z4 z8) .l) = 0 →
    jwp (jprog G) 394 Rt 1027 [some (jR r_0), some (jR r_1), some (jR r_2), some (jI i_3), some (jD z4), none, some (jD z8), none] [] H7) ∧
  (¬ (Op.cmpValue (FP.dcmp z4 z8) .l) = 0 →
    ((Op.cmpValue (FP.dcmp z4 z4) .l) = 0 →
      jbool (0 : Int32) ∧ Rt (.inl (some (jI 0))) H7) ∧
    (¬ (Op.cmpValue (FP.dcmp z4 z4) .l) = 0 →
      (¬ (Op.cmpValue (FP.dcmp z8 z8) .l) = 0 →
        jwp (jprog G) 394 Rt 1027 [some (jR r_0), some (jR r_1), some (jR r_2), some (jI i_3), some (jD z4), none, some (jD z8), none] [] H7) ∧
      (¬ ¬ (Op.cmpValue (FP.dcmp z8 z8) .l) = 0 →
        jbool (0 : Int32) ∧ Rt (.inl (some (jI 0))) H7)))) :
  jwp (jprog G) 394 Rt 904 [some (jR r_0), some (jR r_1), some (jR r_2), some (jI i_3), q_4, q_5, q_6, q_7] [] H :=
  junf_wp (jprog_nf G) (stop := jmem [18, 188, 211, 244, 277, 310, 343, 386, 409, 422, 435, 448, 481, 514, 527, 540, 573, 596, 619, 642, 675, 688, 711, 734, 757, 770, 793, 806, 829, 843, 868, 891, 904, 945, 988, 1001, 1014, 1027]) (pL_law G) 4000 _ _ _ _ h
/-- UnheardBellsLaw law([I)Z @945 -/
theorem gL_law_945 (G : JG) {Rt : JRt} (r_0 : Option Nat) (r_1 : Option Nat) (r_2 : Option Nat) (i_3 : Int32) (q_4 : Option JVal) (q_5 : Option JVal) (q_6 : Option JVal) (q_7 : Option JVal) {H : JHp} (h :
  ∃ (a1 : Nat) (fs2 : List JVal), r_1 = some a1 ∧ job H a1 0 fs2 ∧ /- X0_answerShare -/ ∃ (f4 : UInt32) (H3 : JHp), jok (jprog G) 117 [jR r_1] H (.inl (some (jF f4))) H3 ∧
  vf_n64 (FP.f2d f4) ∧
  ∃ (a5 : Nat) (fs6 : List JVal), r_2 = some a5 ∧ job H3 a5 3 fs6 ∧ /- X3_answerShare -/ ∃ (f8 : UInt32) (H7 : JHp), jok (jprog G) 118 [jR r_2] H3 (.inl (some (jF f8))) H7 ∧
  vf_n64 (FP.f2d f8) ∧
  ((Op.cmpValue (FP.dcmp (FP.f2d f4) (FP.f2d f8)) .l) = 0 →
    jwp (jprog G) 394 Rt 1027 [some (jR r_0), some (jR r_1), some (jR r_2), some (jI i_3), some (jD (FP.f2d f4)), none, some (jD (FP.f2d f8)), none] [] H7) ∧
  (¬ (Op.cmpValue (FP.dcmp (FP.f2d f4) (FP.f2d f8)) .l) = 0 →
    ((Op.cmpValue (FP.dcmp (FP.f2d f4) (FP.f2d f4)) .l) = 0 →
      jbool (0 : Int32) ∧ Rt (.inl (some (jI 0))) H7) ∧
    (¬ (Op.cmpValue (FP.dcmp (FP.f2d f4) (FP.f2d f4)) .l) = 0 →
      (¬ (Op.cmpValue (FP.dcmp (FP.f2d f8) (FP.f2d f8)) .l) = 0 →
        jwp (jprog G) 394 Rt 1027 [some (jR r_0), some (jR r_1), some (jR r_2), some (jI i_3), some (jD (FP.f2d f4)), none, some (jD (FP.f2d f8)), none] [] H7) ∧
      (¬ ¬ (Op.cmpValue (FP.dcmp (FP.f2d f8) (FP.f2d f8)) .l) = 0 →
        jbool (0 : Int32) ∧ Rt (.inl (some (jI 0))) H7)))) :
  jwp (jprog G) 394 Rt 945 [some (jR r_0), some (jR r_1), some (jR r_2), some (jI i_3), q_4, q_5, q_6, q_7] [] H :=
  junf_wp (jprog_nf G) (stop := jmem [18, 188, 211, 244, 277, 310, 343, 386, 409, 422, 435, 448, 481, 514, 527, 540, 573, 596, 619, 642, 675, 688, 711, 734, 757, 770, 793, 806, 829, 843, 868, 891, 904, 945, 988, 1001, 1014, 1027]) (pL_law G) 4000 _ _ _ _ h
/-- UnheardBellsLaw law([I)Z @988 -/
theorem gL_law_988 (G : JG) {Rt : JRt} (r_0 : Option Nat) (r_1 : Option Nat) (r_2 : Option Nat) (i_3 : Int32) (q_4 : Option JVal) (q_5 : Option JVal) (q_6 : Option JVal) (q_7 : Option JVal) {H : JHp} (h :
  ∃ (a1 : Nat) (fs2 : List JVal), r_1 = some a1 ∧ job H a1 0 fs2 ∧ /- X0_undo -/ ∃ (x4 : Int32) (H3 : JHp), jok (jprog G) 113 [jR r_1] H (.inl (some (jI x4))) H3 ∧
  ∃ (a5 : Nat) (fs6 : List JVal), r_2 = some a5 ∧ job H3 a5 3 fs6 ∧ /- X3_undo -/ ∃ (x8 : Int32) (H7 : JHp), jok (jprog G) 114 [jR r_2] H3 (.inl (some (jI x8))) H7 ∧
  (x4 = x8 →
    jwp (jprog G) 394 Rt 1027 [some (jR r_0), some (jR r_1), some (jR r_2), some (jI i_3), q_4, q_5, q_6, q_7] [] H7) ∧
  (¬ x4 = x8 →
    jbool (0 : Int32) ∧ Rt (.inl (some (jI 0))) H7)) :
  jwp (jprog G) 394 Rt 988 [some (jR r_0), some (jR r_1), some (jR r_2), some (jI i_3), q_4, q_5, q_6, q_7] [] H :=
  junf_wp (jprog_nf G) (stop := jmem [18, 188, 211, 244, 277, 310, 343, 386, 409, 422, 435, 448, 481, 514, 527, 540, 573, 596, 619, 642, 675, 688, 711, 734, 757, 770, 793, 806, 829, 843, 868, 891, 904, 945, 988, 1001, 1014, 1027]) (pL_law G) 4000 _ _ _ _ h
/-- UnheardBellsLaw law([I)Z @1001 -/
theorem gL_law_1001 (G : JG) {Rt : JRt} (r_0 : Option Nat) (r_1 : Option Nat) (r_2 : Option Nat) (i_3 : Int32) (q_4 : Option JVal) (q_5 : Option JVal) (q_6 : Option JVal) (q_7 : Option JVal) {H : JHp} (h :
  ∃ (a1 : Nat) (fs2 : List JVal), r_1 = some a1 ∧ job H a1 0 fs2 ∧ /- X0_save -/ ∃ (x4 : Int32) (H3 : JHp), jok (jprog G) 108 [jR r_1] H (.inl (some (jI x4))) H3 ∧
  ∃ (a5 : Nat) (fs6 : List JVal), r_2 = some a5 ∧ job H3 a5 3 fs6 ∧ /- X3_save -/ ∃ (x8 : Int32) (H7 : JHp), jok (jprog G) 109 [jR r_2] H3 (.inl (some (jI x8))) H7 ∧
  (x4 = x8 →
    jwp (jprog G) 394 Rt 1027 [some (jR r_0), some (jR r_1), some (jR r_2), some (jI i_3), q_4, q_5, q_6, q_7] [] H7) ∧
  (¬ x4 = x8 →
    jbool (0 : Int32) ∧ Rt (.inl (some (jI 0))) H7)) :
  jwp (jprog G) 394 Rt 1001 [some (jR r_0), some (jR r_1), some (jR r_2), some (jI i_3), q_4, q_5, q_6, q_7] [] H :=
  junf_wp (jprog_nf G) (stop := jmem [18, 188, 211, 244, 277, 310, 343, 386, 409, 422, 435, 448, 481, 514, 527, 540, 573, 596, 619, 642, 675, 688, 711, 734, 757, 770, 793, 806, 829, 843, 868, 891, 904, 945, 988, 1001, 1014, 1027]) (pL_law G) 4000 _ _ _ _ h
/-- UnheardBellsLaw law([I)Z @1014 -/
theorem gL_law_1014 (G : JG) {Rt : JRt} (r_0 : Option Nat) (r_1 : Option Nat) (r_2 : Option Nat) (i_3 : Int32) (q_4 : Option JVal) (q_5 : Option JVal) (q_6 : Option JVal) (q_7 : Option JVal) {H : JHp} (h :
  ∃ (a1 : Nat) (fs2 : List JVal), r_1 = some a1 ∧ job H a1 0 fs2 ∧ /- X0_restore -/ ∃ (x4 : Int32) (H3 : JHp), jok (jprog G) 105 [jR r_1] H (.inl (some (jI x4))) H3 ∧
  ∃ (a5 : Nat) (fs6 : List JVal), r_2 = some a5 ∧ job H3 a5 3 fs6 ∧ /- X3_restore -/ ∃ (x8 : Int32) (H7 : JHp), jok (jprog G) 107 [jR r_2] H3 (.inl (some (jI x8))) H7 ∧
  (x4 = x8 →
    jwp (jprog G) 394 Rt 1027 [some (jR r_0), some (jR r_1), some (jR r_2), some (jI i_3), q_4, q_5, q_6, q_7] [] H7) ∧
  (¬ x4 = x8 →
    jbool (0 : Int32) ∧ Rt (.inl (some (jI 0))) H7)) :
  jwp (jprog G) 394 Rt 1014 [some (jR r_0), some (jR r_1), some (jR r_2), some (jI i_3), q_4, q_5, q_6, q_7] [] H :=
  junf_wp (jprog_nf G) (stop := jmem [18, 188, 211, 244, 277, 310, 343, 386, 409, 422, 435, 448, 481, 514, 527, 540, 573, 596, 619, 642, 675, 688, 711, 734, 757, 770, 793, 806, 829, 843, 868, 891, 904, 945, 988, 1001, 1014, 1027]) (pL_law G) 4000 _ _ _ _ h
/-- UnheardBellsLaw law([I)Z @1027 -/
theorem gL_law_1027 (G : JG) {Rt : JRt} (r_0 : Option Nat) (r_1 : Option Nat) (r_2 : Option Nat) (i_3 : Int32) (q_4 : Option JVal) (q_5 : Option JVal) (q_6 : Option JVal) (q_7 : Option JVal) {H : JHp} (h :
  jwp (jprog G) 394 Rt 18 [some (jR r_0), some (jR r_1), some (jR r_2), some (jI (i_3 + 4)), q_4, q_5, q_6, q_7] [] H) :
  jwp (jprog G) 394 Rt 1027 [some (jR r_0), some (jR r_1), some (jR r_2), some (jI i_3), q_4, q_5, q_6, q_7] [] H :=
  junf_wp (jprog_nf G) (stop := jmem [18, 188, 211, 244, 277, 310, 343, 386, 409, 422, 435, 448, 481, 514, 527, 540, 573, 596, 619, 642, 675, 688, 711, 734, 757, 770, 793, 806, 829, 843, 868, 891, 904, 945, 988, 1001, 1014, 1027]) (pL_law G) 4000 _ _ _ _ h

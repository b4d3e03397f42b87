/-! wp formulas (by program) -/
set_option maxRecDepth 100000
/-- UnheardBells$InOrder <init>()V @0 -/
theorem gX2_init_0 (G : JG) {Rt : JRt} (this : Option Nat) {H : JHp} (h :
  ∃ a1 : Nat, this = some a1 ∧
  Rt (.inl none) H) :
  jwp (jprog G) 3 Rt 0 [some (jR this)] [] H :=
  junf_wp (jprog_nf G) (stop := jmem []) (pX2_init G) 4000 _ _ _ _ h
/-- UnheardBells$Machine <init>()V @0 -/
theorem gX1_init_0 (G : JG) {Rt : JRt} (this : Option Nat) {H : JHp} (h :
  ∃ a1 : Nat, this = some a1 ∧
  ∃ a2 : Nat, (some H.2.1) = some a2 ∧ /- J2_init -/ ∃ H3 : JHp, jok (jprog G) 2 [jR (some H.2.1), jI 12] (jnew H (jO 11 [jI 0, jR none, jI 0]) 3) (.inl none) H3 ∧
  ∃ (a4 : Nat) (fs5 : List JVal) (v6 : JVal), this = some a4 ∧ H3.1 a4 = some (true, jO 1 fs5) ∧ jn fs5 0 = some v6 ∧
  ∃ a7 : Nat, (some (jnew (jup H3 a4 (jO 1 (jset fs5 0 (jR (some H.2.1))))) (jO 12 [jR none, jI 0, jR none, jI 0]) 4).2.1) = some a7 ∧ /- X2_init -/ ∃ H8 : JHp, jok (jprog G) 3 [jR (some (jnew (jup H3 a4 (jO 1 (jset fs5 0 (jR (some H.2.1))))) (jO 12 [jR none, jI 0, jR none, jI 0]) 4).2.1)] (jnew (jnew (jup H3 a4 (jO 1 (jset fs5 0 (jR (some H.2.1))))) (jO 12 [jR none, jI 0, jR none, jI 0]) 4) (jO 2 []) 0) (.inl none) H8 ∧
  ∃ a9 : Nat, (some (jup H3 a4 (jO 1 (jset fs5 0 (jR (some H.2.1))))).2.1) = some a9 ∧ /- J4_init -/ ∃ H10 : JHp, jok (jprog G) 7 [jR (some (jup H3 a4 (jO 1 (jset fs5 0 (jR (some H.2.1))))).2.1), jR (some (jnew (jup H3 a4 (jO 1 (jset fs5 0 (jR (some H.2.1))))) (jO 12 [jR none, jI 0, jR none, jI 0]) 4).2.1)] H8 (.inl none) H10 ∧
  ∃ (a11 : Nat) (fs12 : List JVal) (v13 : JVal), this = some a11 ∧ H10.1 a11 = some (true, jO 1 fs12) ∧ jn fs12 1 = some v13 ∧
  ∃ a14 : Nat, (some (jup H10 a11 (jO 1 (jset fs12 1 (jR (some (jup H3 a4 (jO 1 (jset fs5 0 (jR (some H.2.1))))).2.1))))).2.1) = some a14 ∧ /- J6_init -/ ∃ H15 : JHp, jok (jprog G) 9 [jR (some (jup H10 a11 (jO 1 (jset fs12 1 (jR (some (jup H3 a4 (jO 1 (jset fs5 0 (jR (some H.2.1))))).2.1))))).2.1)] (jnew (jup H10 a11 (jO 1 (jset fs12 1 (jR (some (jup H3 a4 (jO 1 (jset fs5 0 (jR (some H.2.1))))).2.1))))) (jO 13 [jR none, jR none, jR none, jR none, jI 0, jI 0, jR none, jR none, jR none]) 9) (.inl none) H15 ∧
  ∃ (a16 : Nat) (fs17 : List JVal) (v18 : JVal), this = some a16 ∧ H15.1 a16 = some (true, jO 1 fs17) ∧ jn fs17 2 = some v18 ∧
  ∃ a19 : Nat, (some (jup H15 a16 (jO 1 (jset fs17 2 (jR (some (jup H10 a11 (jO 1 (jset fs12 1 (jR (some (jup H3 a4 (jO 1 (jset fs5 0 (jR (some H.2.1))))).2.1))))).2.1))))).2.1) = some a19 ∧ /- J7_init -/ ∃ H20 : JHp, jok (jprog G) 11 [jR (some (jup H15 a16 (jO 1 (jset fs17 2 (jR (some (jup H10 a11 (jO 1 (jset fs12 1 (jR (some (jup H3 a4 (jO 1 (jset fs5 0 (jR (some H.2.1))))).2.1))))).2.1))))).2.1)] (jnew (jup H15 a16 (jO 1 (jset fs17 2 (jR (some (jup H10 a11 (jO 1 (jset fs12 1 (jR (some (jup H3 a4 (jO 1 (jset fs5 0 (jR (some H.2.1))))).2.1))))).2.1))))) (jO 14 [jR none, jI 0, jI 0]) 3) (.inl none) H20 ∧
  ∃ (a21 : Nat) (fs22 : List JVal) (v23 : JVal), this = some a21 ∧ H20.1 a21 = some (true, jO 1 fs22) ∧ jn fs22 3 = some v23 ∧
  Rt (.inl none) (jup H20 a21 (jO 1 (jset fs22 3 (jR (some (jup H15 a16 (jO 1 (jset fs17 2 (jR (some (jup H10 a11 (jO 1 (jset fs12 1 (jR (some (jup H3 a4 (jO 1 (jset fs5 0 (jR (some H.2.1))))).2.1))))).2.1))))).2.1)))))) :
  jwp (jprog G) 12 Rt 0 [some (jR this)] [] H :=
  junf_wp (jprog_nf G) (stop := jmem []) (pX1_init G) 4000 _ _ _ _ h
/-- UnheardBells <init>()V @0 -/
theorem gX0_init_0 (G : JG) {Rt : JRt} (this : Option Nat) {H : JHp} (h :
  ∃ a1 : Nat, this = some a1 ∧
  ¬ (3 : Int32) < 0 ∧ ((3 : Int32)).toNatClampNeg ≤ 65536 ∧
  ∃ (a2 : Nat) (fs3 : List JVal) (v4 : JVal), this = some a2 ∧ (jnew H (jA 4 (aR ((3 : Int32)).toNatClampNeg (fun _ => none))) ((3 : Int32)).toNatClampNeg).1 a2 = some (true, jO 0 fs3) ∧ jn fs3 0 = some v4 ∧
  ∃ a5 : Nat, (some (jup (jnew H (jA 4 (aR ((3 : Int32)).toNatClampNeg (fun _ => none))) ((3 : Int32)).toNatClampNeg) a2 (jO 0 (jset fs3 0 (jR (some H.2.1))))).2.1) = some a5 ∧ /- X1_init -/ ∃ H6 : JHp, jok (jprog G) 12 [jR (some (jup (jnew H (jA 4 (aR ((3 : Int32)).toNatClampNeg (fun _ => none))) ((3 : Int32)).toNatClampNeg) a2 (jO 0 (jset fs3 0 (jR (some H.2.1))))).2.1)] (jnew (jup (jnew H (jA 4 (aR ((3 : Int32)).toNatClampNeg (fun _ => none))) ((3 : Int32)).toNatClampNeg) a2 (jO 0 (jset fs3 0 (jR (some H.2.1))))) (jO 1 [jR none, jR none, jR none, jR none, jI 0, jI 0, jI 0, jI 0, jI 0]) 9) (.inl none) H6 ∧
  ∃ (a7 : Nat) (fs8 : List JVal) (v9 : JVal), this = some a7 ∧ H6.1 a7 = some (true, jO 0 fs8) ∧ jn fs8 1 = some v9 ∧
  ∃ a10 : Nat, (some (jup H6 a7 (jO 0 (jset fs8 1 (jR (some (jup (jnew H (jA 4 (aR ((3 : Int32)).toNatClampNeg (fun _ => none))) ((3 : Int32)).toNatClampNeg) a2 (jO 0 (jset fs3 0 (jR (some H.2.1))))).2.1))))).2.1) = some a10 ∧ /- J7_init -/ ∃ H11 : JHp, jok (jprog G) 11 [jR (some (jup H6 a7 (jO 0 (jset fs8 1 (jR (some (jup (jnew H (jA 4 (aR ((3 : Int32)).toNatClampNeg (fun _ => none))) ((3 : Int32)).toNatClampNeg) a2 (jO 0 (jset fs3 0 (jR (some H.2.1))))).2.1))))).2.1)] (jnew (jup H6 a7 (jO 0 (jset fs8 1 (jR (some (jup (jnew H (jA 4 (aR ((3 : Int32)).toNatClampNeg (fun _ => none))) ((3 : Int32)).toNatClampNeg) a2 (jO 0 (jset fs3 0 (jR (some H.2.1))))).2.1))))) (jO 14 [jR none, jI 0, jI 0]) 3) (.inl none) H11 ∧
  ∃ (a12 : Nat) (fs13 : List JVal) (v14 : JVal), this = some a12 ∧ H11.1 a12 = some (true, jO 0 fs13) ∧ jn fs13 3 = some v14 ∧
  ∃ a15 : Nat, (some (jup H11 a12 (jO 0 (jset fs13 3 (jR (some (jup H6 a7 (jO 0 (jset fs8 1 (jR (some (jup (jnew H (jA 4 (aR ((3 : Int32)).toNatClampNeg (fun _ => none))) ((3 : Int32)).toNatClampNeg) a2 (jO 0 (jset fs3 0 (jR (some H.2.1))))).2.1))))).2.1))))).2.1) = some a15 ∧ /- J9_init -/ ∃ H16 : JHp, jok (jprog G) 14 [jR (some (jup H11 a12 (jO 0 (jset fs13 3 (jR (some (jup H6 a7 (jO 0 (jset fs8 1 (jR (some (jup (jnew H (jA 4 (aR ((3 : Int32)).toNatClampNeg (fun _ => none))) ((3 : Int32)).toNatClampNeg) a2 (jO 0 (jset fs3 0 (jR (some H.2.1))))).2.1))))).2.1))))).2.1)] (jnew (jup H11 a12 (jO 0 (jset fs13 3 (jR (some (jup H6 a7 (jO 0 (jset fs8 1 (jR (some (jup (jnew H (jA 4 (aR ((3 : Int32)).toNatClampNeg (fun _ => none))) ((3 : Int32)).toNatClampNeg) a2 (jO 0 (jset fs3 0 (jR (some H.2.1))))).2.1))))).2.1))))) (jO 15 [jR none, jI 0, jI 0, jI 0]) 4) (.inl none) H16 ∧
  ∃ (a17 : Nat) (fs18 : List JVal) (v19 : JVal), this = some a17 ∧ H16.1 a17 = some (true, jO 0 fs18) ∧ jn fs18 6 = some v19 ∧
  ∃ (a20 : Nat) (fs21 : List JVal) (v22 : JVal), this = some a20 ∧ (jup H16 a17 (jO 0 (jset fs18 6 (jR (some (jup H11 a12 (jO 0 (jset fs13 3 (jR (some (jup H6 a7 (jO 0 (jset fs8 1 (jR (some (jup (jnew H (jA 4 (aR ((3 : Int32)).toNatClampNeg (fun _ => none))) ((3 : Int32)).toNatClampNeg) a2 (jO 0 (jset fs3 0 (jR (some H.2.1))))).2.1))))).2.1))))).2.1))))).1 a20 = some (true, jO 0 fs21) ∧ jn fs21 7 = some v22 ∧
  jwp (jprog G) 15 Rt 53 [some (jR this), some (jI 0), none] [] (jup (jup H16 a17 (jO 0 (jset fs18 6 (jR (some (jup H11 a12 (jO 0 (jset fs13 3 (jR (some (jup H6 a7 (jO 0 (jset fs8 1 (jR (some (jup (jnew H (jA 4 (aR ((3 : Int32)).toNatClampNeg (fun _ => none))) ((3 : Int32)).toNatClampNeg) a2 (jO 0 (jset fs3 0 (jR (some H.2.1))))).2.1))))).2.1))))).2.1))))) a20 (jO 0 (jset fs21 7 (jR (some (G.1 2))))))) :
  jwp (jprog G) 15 Rt 0 [some (jR this), none, none] [] H :=
  junf_wp (jprog_nf G) (stop := jmem [53]) (pX0_init G) 4000 _ _ _ _ h
/-- UnheardBells <init>()V @53 -/
theorem gX0_init_53 (G : JG) {Rt : JRt} (r_0 : Option Nat) (i_1 : Int32) (q_2 : Option JVal) {H : JHp} (h :
  ((3 : Int32) ≤ i_1 →
    Rt (.inl none) H) ∧
  (¬ (3 : Int32) ≤ i_1 →
    ∃ (a1 : Nat) (fs2 : List JVal) (r3 : Option Nat), r_0 = some a1 ∧ job H a1 0 fs2 ∧ jn fs2 0 = some (jR r3) ∧
    ∃ (a4 n5 : Nat) (f6 : Nat → Option Nat), r3 = some a4 ∧ (jnew H (jO 999 [jI i_1]) 1).1 a4 = some (true, jA 4 (aR n5 f6)) ∧ vp_in i_1 n5 ∧ (∀ b, (some H.2.1) = some b → ∃ fs, job (jnew H (jO 999 [jI i_1]) 1) b 999 fs) ∧ 
    jwp (jprog G) 15 Rt 53 [some (jR r_0), some (jI (i_1 + 1)), some (jI i_1)] [] (jup (jnew H (jO 999 [jI i_1]) 1) a4 (jA 4 (aR n5 (va_up f6 (i_1).toNatClampNeg (some H.2.1))))))) :
  jwp (jprog G) 15 Rt 53 [some (jR r_0), some (jI i_1), q_2] [] H :=
  junf_wp (jprog_nf G) (stop := jmem [53]) (pX0_init G) 4000 _ _ _ _ h
/-- UnheardBells$Rope <init>(I)V @0 -/
theorem gX4_init_0 (G : JG) {Rt : JRt} (this : Option Nat) (i_1 : Int32) {H : JHp} (h :
  ∃ a1 : Nat, this = some a1 ∧
  jbool (1 : Int32) ∧ ∃ (a2 : Nat) (fs3 : List JVal) (v4 : JVal), this = some a2 ∧ H.1 a2 = some (true, jO 4 fs3) ∧ jn fs3 1 = some v4 ∧
  ∃ (a5 : Nat) (fs6 : List JVal) (v7 : JVal), this = some a5 ∧ (jup H a2 (jO 4 (jset fs3 1 (jI 1)))).1 a5 = some (true, jO 4 fs6) ∧ jn fs6 0 = some v7 ∧
  Rt (.inl none) (jup (jup H a2 (jO 4 (jset fs3 1 (jI 1)))) a5 (jO 4 (jset fs6 0 (jI i_1))))) :
  jwp (jprog G) 22 Rt 0 [some (jR this), some (jI i_1)] [] H :=
  junf_wp (jprog_nf G) (stop := jmem []) (pX4_init G) 4000 _ _ _ _ h
/-- UnheardBells$Rope copy()LUnheardBells$Rope; @0 -/
theorem gX4_copy_0 (G : JG) {Rt : JRt} (this : Option Nat) {H : JHp} (h :
  ∃ (a1 : Nat) (fs2 : List JVal) (x3 : Int32), this = some a1 ∧ job (jnew H (jO 4 [jI 0, jI 0, jI 0, jI 0, jI 0, jI 0]) 6) a1 4 fs2 ∧ jn fs2 0 = some (jI x3) ∧
  ∃ a4 : Nat, (some H.2.1) = some a4 ∧ /- X4_init -/ ∃ H5 : JHp, jok (jprog G) 22 [jR (some H.2.1), jI x3] (jnew H (jO 4 [jI 0, jI 0, jI 0, jI 0, jI 0, jI 0]) 6) (.inl none) H5 ∧
  ∃ (a6 : Nat) (fs7 : List JVal) (x8 : Int32), this = some a6 ∧ job H5 a6 4 fs7 ∧ jn fs7 1 = some (jI x8) ∧
  jbool x8 ∧ ∃ (a9 : Nat) (fs10 : List JVal) (v11 : JVal), (some H.2.1) = some a9 ∧ H5.1 a9 = some (true, jO 4 fs10) ∧ jn fs10 1 = some v11 ∧
  ∃ (a12 : Nat) (fs13 : List JVal) (x14 : Int32), this = some a12 ∧ job (jup H5 a9 (jO 4 (jset fs10 1 (jI x8)))) a12 4 fs13 ∧ jn fs13 2 = some (jI x14) ∧
  ∃ (a15 : Nat) (fs16 : List JVal) (v17 : JVal), (some H.2.1) = some a15 ∧ (jup H5 a9 (jO 4 (jset fs10 1 (jI x8)))).1 a15 = some (true, jO 4 fs16) ∧ jn fs16 2 = some v17 ∧
  ∃ (a18 : Nat) (fs19 : List JVal) (x20 : Int32), this = some a18 ∧ job (jup (jup H5 a9 (jO 4 (jset fs10 1 (jI x8)))) a15 (jO 4 (jset fs16 2 (jI x14)))) a18 4 fs19 ∧ jn fs19 3 = some (jI x20) ∧
  ∃ (a21 : Nat) (fs22 : List JVal) (v23 : JVal), (some H.2.1) = some a21 ∧ (jup (jup H5 a9 (jO 4 (jset fs10 1 (jI x8)))) a15 (jO 4 (jset fs16 2 (jI x14)))).1 a21 = some (true, jO 4 fs22) ∧ jn fs22 3 = some v23 ∧
  ∃ (a24 : Nat) (fs25 : List JVal) (x26 : Int32), this = some a24 ∧ job (jup (jup (jup H5 a9 (jO 4 (jset fs10 1 (jI x8)))) a15 (jO 4 (jset fs16 2 (jI x14)))) a21 (jO 4 (jset fs22 3 (jI x20)))) a24 4 fs25 ∧ jn fs25 4 = some (jI x26) ∧
  ∃ (a27 : Nat) (fs28 : List JVal) (v29 : JVal), (some H.2.1) = some a27 ∧ (jup (jup (jup H5 a9 (jO 4 (jset fs10 1 (jI x8)))) a15 (jO 4 (jset fs16 2 (jI x14)))) a21 (jO 4 (jset fs22 3 (jI x20)))).1 a27 = some (true, jO 4 fs28) ∧ jn fs28 4 = some v29 ∧
  ∃ (a30 : Nat) (fs31 : List JVal) (x32 : Int32), this = some a30 ∧ job (jup (jup (jup (jup H5 a9 (jO 4 (jset fs10 1 (jI x8)))) a15 (jO 4 (jset fs16 2 (jI x14)))) a21 (jO 4 (jset fs22 3 (jI x20)))) a27 (jO 4 (jset fs28 4 (jI x26)))) a30 4 fs31 ∧ jn fs31 5 = some (jI x32) ∧
  ∃ (a33 : Nat) (fs34 : List JVal) (v35 : JVal), (some H.2.1) = some a33 ∧ (jup (jup (jup (jup H5 a9 (jO 4 (jset fs10 1 (jI x8)))) a15 (jO 4 (jset fs16 2 (jI x14)))) a21 (jO 4 (jset fs22 3 (jI x20)))) a27 (jO 4 (jset fs28 4 (jI x26)))).1 a33 = some (true, jO 4 fs34) ∧ jn fs34 5 = some v35 ∧
  Rt (.inl (some (jR (some H.2.1)))) (jup (jup (jup (jup (jup H5 a9 (jO 4 (jset fs10 1 (jI x8)))) a15 (jO 4 (jset fs16 2 (jI x14)))) a21 (jO 4 (jset fs22 3 (jI x20)))) a27 (jO 4 (jset fs28 4 (jI x26)))) a33 (jO 4 (jset fs34 5 (jI x32))))) :
  jwp (jprog G) 23 Rt 0 [some (jR this), none] [] H :=
  junf_wp (jprog_nf G) (stop := jmem []) (pX4_copy G) 4000 _ _ _ _ h
/-- UnheardBells$InOrder compare(LUnheardBells$Pull;LUnheardBells$Pull;)I @0 -/
theorem gX2_compare_2_0 (G : JG) {Rt : JRt} (this : Option Nat) (r_1 : Option Nat) (r_2 : Option Nat) {H : JHp} (h :
  ∃ (a1 : Nat) (fs2 : List JVal) (x3 : Int32), r_1 = some a1 ∧ job H a1 6 fs2 ∧ jn fs2 1 = some (jI x3) ∧
  ∃ (a4 : Nat) (fs5 : List JVal) (x6 : Int32), r_2 = some a4 ∧ job H a4 6 fs5 ∧ jn fs5 1 = some (jI x6) ∧
  (x3 = x6 →
    ∃ (a7 : Nat) (fs8 : List JVal) (x9 : Int32), r_1 = some a7 ∧ job H a7 6 fs8 ∧ jn fs8 2 = some (jI x9) ∧
    ∃ (a10 : Nat) (fs11 : List JVal) (x12 : Int32), r_2 = some a10 ∧ job H a10 6 fs11 ∧ jn fs11 2 = some (jI x12) ∧
    (x9 = x12 →
      ∃ (a13 : Nat) (fs14 : List JVal) (x15 : Int32), r_1 = some a13 ∧ job H a13 6 fs14 ∧ jn fs14 0 = some (jI x15) ∧
      ∃ (a16 : Nat) (fs17 : List JVal) (x18 : Int32), r_2 = some a16 ∧ job H a16 6 fs17 ∧ jn fs17 0 = some (jI x18) ∧
      (x15 = x18 →
        ∃ (a19 : Nat) (fs20 : List JVal) (x21 : Int32), r_1 = some a19 ∧ job H a19 6 fs20 ∧ jn fs20 3 = some (jI x21) ∧
        ∃ (a22 : Nat) (fs23 : List JVal) (x24 : Int32), r_2 = some a22 ∧ job H a22 6 fs23 ∧ jn fs23 3 = some (jI x24) ∧
        Rt (.inl (some (jI (x21 - x24)))) H) ∧
      (¬ x15 = x18 →
        ∃ (a25 : Nat) (fs26 : List JVal) (x27 : Int32), r_1 = some a25 ∧ job H a25 6 fs26 ∧ jn fs26 0 = some (jI x27) ∧
        ∃ (a28 : Nat) (fs29 : List JVal) (x30 : Int32), r_2 = some a28 ∧ job H a28 6 fs29 ∧ jn fs29 0 = some (jI x30) ∧
        Rt (.inl (some (jI (x27 - x30)))) H)) ∧
    (¬ x9 = x12 →
      ∃ (a31 : Nat) (fs32 : List JVal) (x33 : Int32), r_2 = some a31 ∧ job H a31 6 fs32 ∧ jn fs32 2 = some (jI x33) ∧
      ∃ (a34 : Nat) (fs35 : List JVal) (x36 : Int32), r_1 = some a34 ∧ job H a34 6 fs35 ∧ jn fs35 2 = some (jI x36) ∧
      Rt (.inl (some (jI (x33 - x36)))) H)) ∧
  (¬ x3 = x6 →
    ∃ (a37 : Nat) (fs38 : List JVal) (x39 : Int32), r_1 = some a37 ∧ job H a37 6 fs38 ∧ jn fs38 1 = some (jI x39) ∧
    ∃ (a40 : Nat) (fs41 : List JVal) (x42 : Int32), r_2 = some a40 ∧ job H a40 6 fs41 ∧ jn fs41 1 = some (jI x42) ∧
    Rt (.inl (some (jI (x39 - x42)))) H)) :
  jwp (jprog G) 41 Rt 0 [some (jR this), some (jR r_1), some (jR r_2)] [] H :=
  junf_wp (jprog_nf G) (stop := jmem []) (pX2_compare_2 G) 4000 _ _ _ _ h
/-- UnheardBells$InOrder compare(Ljava/lang/Object;Ljava/lang/Object;)I @0 -/
theorem gX2_compare_0 (G : JG) {Rt : JRt} (this : Option Nat) (r_1 : Option Nat) (r_2 : Option Nat) {H : JHp} (h :
  (∀ a, r_1 = some a → ∃ fs, job H a 6 fs) ∧
  (∀ a, r_2 = some a → ∃ fs, job H a 6 fs) ∧
  ∃ (a1 : Nat) (fs2 : List JVal), this = some a1 ∧ job H a1 2 fs2 ∧ /- X2_compare_2 -/ ∃ (x4 : Int32) (H3 : JHp), jok (jprog G) 41 [jR this, jR r_1, jR r_2] H (.inl (some (jI x4))) H3 ∧
  Rt (.inl (some (jI x4))) H3) :
  jwp (jprog G) 42 Rt 0 [some (jR this), some (jR r_1), some (jR r_2)] [] H :=
  junf_wp (jprog_nf G) (stop := jmem []) (pX2_compare G) 4000 _ _ _ _ h
/-- UnheardBells$Machine copy()LUnheardBells$Machine; @0 -/
theorem gX1_copy_0 (G : JG) {Rt : JRt} (this : Option Nat) {H : JHp} (h :
  ∃ a1 : Nat, (some H.2.1) = some a1 ∧ /- X1_init -/ ∃ H2 : JHp, jok (jprog G) 12 [jR (some H.2.1)] (jnew H (jO 1 [jR none, jR none, jR none, jR none, jI 0, jI 0, jI 0, jI 0, jI 0]) 9) (.inl none) H2 ∧
  ∃ (a3 : Nat) (fs4 : List JVal) (r5 : Option Nat), this = some a3 ∧ job H2 a3 1 fs4 ∧ jn fs4 0 = some (jR r5) ∧
  ∃ (a6 : Nat) (fs7 : List JVal), r5 = some a6 ∧ job H2 a6 11 fs7 ∧ /- J2_iterator -/ ∃ (r9 : Option Nat) (H8 : JHp), jok (jprog G) 18 [jR r5] H2 (.inl (some (jR r9))) H8 ∧
  jwp (jprog G) 101 Rt 16 [some (jR this), some (jR (some H.2.1)), some (jR r9), none, none, none] [] H8) :
  jwp (jprog G) 101 Rt 0 [some (jR this), none, none, none, none, none] [] H :=
  junf_wp (jprog_nf G) (stop := jmem [16, 58, 102, 181]) (pX1_copy G) 4000 _ _ _ _ h
/-- UnheardBells$Machine copy()LUnheardBells$Machine; @16 -/
theorem gX1_copy_16 (G : JG) {Rt : JRt} (r_0 : Option Nat) (r_1 : Option Nat) (r_2 : Option Nat) (q_3 : Option JVal) (q_4 : Option JVal) (q_5 : Option JVal) {H : JHp} (h :
  ∃ (a1 : Nat) (fs2 : List JVal), r_2 = some a1 ∧ job H a1 17 fs2 ∧ /- J12_hasNext -/ ∃ (x4 : Int32) (H3 : JHp), jok (jprog G) 19 [jR r_2] H (.inl (some (jI x4))) H3 ∧
  (x4 = 0 →
    ∃ (a5 : Nat) (fs6 : List JVal) (r7 : Option Nat), r_0 = some a5 ∧ job H3 a5 1 fs6 ∧ jn fs6 1 = some (jR r7) ∧
    ∃ (a8 : Nat) (fs9 : List JVal), r7 = some a8 ∧ job H3 a8 12 fs9 ∧ /- J4_iterator -/ ∃ (r11 : Option Nat) (H10 : JHp), jok (jprog G) 27 [jR r7] H3 (.inl (some (jR r11))) H10 ∧
    jwp (jprog G) 101 Rt 58 [some (jR r_0), some (jR r_1), some (jR r11), q_3, q_4, q_5] [] H10) ∧
  (¬ x4 = 0 →
    ∃ (a12 : Nat) (fs13 : List JVal), r_2 = some a12 ∧ job H3 a12 17 fs13 ∧ /- J12_next -/ ∃ (r15 : Option Nat) (H14 : JHp), jok (jprog G) 21 [jR r_2] H3 (.inl (some (jR r15))) H14 ∧
    (∀ a, r15 = some a → ∃ fs, job H14 a 4 fs) ∧
    ∃ (a16 : Nat) (fs17 : List JVal) (r18 : Option Nat), r_1 = some a16 ∧ job H14 a16 1 fs17 ∧ jn fs17 0 = some (jR r18) ∧
    ∃ (a19 : Nat) (fs20 : List JVal), r15 = some a19 ∧ job H14 a19 4 fs20 ∧ /- X4_copy -/ ∃ (r22 : Option Nat) (H21 : JHp), jok (jprog G) 23 [jR r15] H14 (.inl (some (jR r22))) H21 ∧
    ∃ (a23 : Nat) (fs24 : List JVal), r18 = some a23 ∧ job H21 a23 11 fs24 ∧ /- J2_add -/ ∃ (x26 : Int32) (H25 : JHp), jok (jprog G) 25 [jR r18, jR r22] H21 (.inl (some (jI x26))) H25 ∧
    jwp (jprog G) 101 Rt 16 [some (jR r_0), some (jR r_1), some (jR r_2), some (jR r15), q_4, q_5] [] H25)) :
  jwp (jprog G) 101 Rt 16 [some (jR r_0), some (jR r_1), some (jR r_2), q_3, q_4, q_5] [] H :=
  junf_wp (jprog_nf G) (stop := jmem [16, 58, 102, 181]) (pX1_copy G) 4000 _ _ _ _ h
/-- UnheardBells$Machine copy()LUnheardBells$Machine; @58 -/
theorem gX1_copy_58 (G : JG) {Rt : JRt} (r_0 : Option Nat) (r_1 : Option Nat) (r_2 : Option Nat) (q_3 : Option JVal) (q_4 : Option JVal) (q_5 : Option JVal) {H : JHp} (h :
  ∃ (a1 : Nat) (fs2 : List JVal), r_2 = some a1 ∧ job H a1 20 fs2 ∧ /- J23_hasNext -/ ∃ (x4 : Int32) (H3 : JHp), jok (jprog G) 29 [jR r_2] H (.inl (some (jI x4))) H3 ∧
  (x4 = 0 →
    ∃ (a5 : Nat) (fs6 : List JVal) (r7 : Option Nat), r_0 = some a5 ∧ job H3 a5 1 fs6 ∧ jn fs6 2 = some (jR r7) ∧
    ∃ (a8 : Nat) (fs9 : List JVal), r7 = some a8 ∧ job H3 a8 13 fs9 ∧ /- J6_keySet -/ ∃ (r11 : Option Nat) (H10 : JHp), jok (jprog G) 51 [jR r7] H3 (.inl (some (jR r11))) H10 ∧
    ∃ (a12 : Nat) (fs13 : List JVal), r11 = some a12 ∧ job H10 a12 22 fs13 ∧ /- J29_iterator -/ ∃ (r15 : Option Nat) (H14 : JHp), jok (jprog G) 56 [jR r11] H10 (.inl (some (jR r15))) H14 ∧
    jwp (jprog G) 101 Rt 102 [some (jR r_0), some (jR r_1), some (jR r15), q_3, q_4, q_5] [] H14) ∧
  (¬ x4 = 0 →
    ∃ (a16 : Nat) (fs17 : List JVal), r_2 = some a16 ∧ job H3 a16 20 fs17 ∧ /- J23_next -/ ∃ (r19 : Option Nat) (H18 : JHp), jok (jprog G) 34 [jR r_2] H3 (.inl (some (jR r19))) H18 ∧
    (∀ a, r19 = some a → ∃ fs, job H18 a 6 fs) ∧
    ∃ (a20 : Nat) (fs21 : List JVal) (r22 : Option Nat), r_1 = some a20 ∧ job H18 a20 1 fs21 ∧ jn fs21 1 = some (jR r22) ∧
    ∃ (a23 : Nat) (fs24 : List JVal), r22 = some a23 ∧ job H18 a23 12 fs24 ∧ /- J4_add -/ ∃ (x26 : Int32) (H25 : JHp), jok (jprog G) 46 [jR r22, jR r19] H18 (.inl (some (jI x26))) H25 ∧
    jwp (jprog G) 101 Rt 58 [some (jR r_0), some (jR r_1), some (jR r_2), some (jR r19), q_4, q_5] [] H25)) :
  jwp (jprog G) 101 Rt 58 [some (jR r_0), some (jR r_1), some (jR r_2), q_3, q_4, q_5] [] H :=
  junf_wp (jprog_nf G) (stop := jmem [16, 58, 102, 181]) (pX1_copy G) 4000 _ _ _ _ h
/-- UnheardBells$Machine copy()LUnheardBells$Machine; @102 -/
theorem gX1_copy_102 (G : JG) {Rt : JRt} (r_0 : Option Nat) (r_1 : Option Nat) (r_2 : Option Nat) (q_3 : Option JVal) (q_4 : Option JVal) (q_5 : Option JVal) {H : JHp} (h :
  ∃ (a1 : Nat) (fs2 : List JVal), r_2 = some a1 ∧ job H a1 23 fs2 ∧ /- J30_hasNext__J31 -/ ∃ (x4 : Int32) (H3 : JHp), jok (jprog G) 57 [jR r_2] H (.inl (some (jI x4))) H3 ∧
  (x4 = 0 →
    ∃ (a5 : Nat) (fs6 : List JVal) (r7 : Option Nat), r_0 = some a5 ∧ job H3 a5 1 fs6 ∧ jn fs6 3 = some (jR r7) ∧
    ∃ (a8 : Nat) (fs9 : List JVal), r7 = some a8 ∧ job H3 a8 14 fs9 ∧ /- J7_iterator -/ ∃ (r11 : Option Nat) (H10 : JHp), jok (jprog G) 94 [jR r7] H3 (.inl (some (jR r11))) H10 ∧
    jwp (jprog G) 101 Rt 181 [some (jR r_0), some (jR r_1), some (jR r11), q_3, q_4, q_5] [] H10) ∧
  (¬ x4 = 0 →
    ∃ (a12 : Nat) (fs13 : List JVal), r_2 = some a12 ∧ job H3 a12 23 fs13 ∧ /- J31_next -/ ∃ (r15 : Option Nat) (H14 : JHp), jok (jprog G) 60 [jR r_2] H3 (.inl (some (jR r15))) H14 ∧
    (∀ a, r15 = some a → ∃ fs, job H14 a 21 fs) ∧
    ∃ (a16 : Nat) (fs17 : List JVal), r15 = some a16 ∧ job H14 a16 21 fs17 ∧ /- J25_intValue -/ ∃ (x19 : Int32) (H18 : JHp), jok (jprog G) 61 [jR r15] H14 (.inl (some (jI x19))) H18 ∧
    ∃ a20 : Nat, (some H18.2.1) = some a20 ∧ /- J32_init -/ ∃ H21 : JHp, jok (jprog G) 64 [jR (some H18.2.1)] (jnew H18 (jO 24 [jR none, jI 0, jI 0]) 3) (.inl none) H21 ∧
    ∃ (a22 : Nat) (fs23 : List JVal) (r24 : Option Nat), r_0 = some a22 ∧ job H21 a22 1 fs23 ∧ jn fs23 2 = some (jR r24) ∧
    /- J25_valueOf -/ ∃ (r26 : Option Nat) (H25 : JHp), jok (jprog G) 67 [jI x19] H21 (.inl (some (jR r26))) H25 ∧
    ∃ (a27 : Nat) (fs28 : List JVal), r24 = some a27 ∧ job H25 a27 13 fs28 ∧ /- J6_get -/ ∃ (r30 : Option Nat) (H29 : JHp), jok (jprog G) 73 [jR r24, jR r26] H25 (.inl (some (jR r30))) H29 ∧
    (∀ a, r30 = some a → ∃ fs, job H29 a 24 fs) ∧
    ∃ (a31 : Nat) (fs32 : List JVal), (some H18.2.1) = some a31 ∧ job H29 a31 24 fs32 ∧ /- J32_or -/ ∃ H33 : JHp, jok (jprog G) 76 [jR (some H18.2.1), jR r30] H29 (.inl none) H33 ∧
    ∃ (a34 : Nat) (fs35 : List JVal) (r36 : Option Nat), r_1 = some a34 ∧ job H33 a34 1 fs35 ∧ jn fs35 2 = some (jR r36) ∧
    /- J25_valueOf -/ ∃ (r38 : Option Nat) (H37 : JHp), jok (jprog G) 67 [jI x19] H33 (.inl (some (jR r38))) H37 ∧
    ∃ (a39 : Nat) (fs40 : List JVal), r36 = some a39 ∧ job H37 a39 13 fs40 ∧ /- J6_put -/ ∃ (r42 : Option Nat) (H41 : JHp), jok (jprog G) 90 [jR r36, jR r38, jR (some H18.2.1)] H37 (.inl (some (jR r42))) H41 ∧
    (∀ a, r42 = some a → ∃ fs, job H41 a 24 fs) ∧
    jwp (jprog G) 101 Rt 102 [some (jR r_0), some (jR r_1), some (jR r_2), some (jI x19), some (jR (some H18.2.1)), some (jR r42)] [] H41)) :
  jwp (jprog G) 101 Rt 102 [some (jR r_0), some (jR r_1), some (jR r_2), q_3, q_4, q_5] [] H :=
  junf_wp (jprog_nf G) (stop := jmem [16, 58, 102, 181]) (pX1_copy G) 4000 _ _ _ _ h
/-- UnheardBells$Machine copy()LUnheardBells$Machine; @181 -/
theorem gX1_copy_181 (G : JG) {Rt : JRt} (r_0 : Option Nat) (r_1 : Option Nat) (r_2 : Option Nat) (q_3 : Option JVal) (q_4 : Option JVal) (q_5 : Option JVal) {H : JHp} (h :
  ∃ (a1 : Nat) (fs2 : List JVal), r_2 = some a1 ∧ job H a1 26 fs2 ∧ /- J34_hasNext -/ ∃ (x4 : Int32) (H3 : JHp), jok (jprog G) 95 [jR r_2] H (.inl (some (jI x4))) H3 ∧
  (x4 = 0 →
    ∃ (a5 : Nat) (fs6 : List JVal) (x7 : Int32), r_0 = some a5 ∧ job H3 a5 1 fs6 ∧ jn fs6 4 = some (jI x7) ∧
    ∃ (a8 : Nat) (fs9 : List JVal) (v10 : JVal), r_1 = some a8 ∧ H3.1 a8 = some (true, jO 1 fs9) ∧ jn fs9 4 = some v10 ∧
    ∃ (a11 : Nat) (fs12 : List JVal) (x13 : Int32), r_0 = some a11 ∧ job (jup H3 a8 (jO 1 (jset fs9 4 (jI x7)))) a11 1 fs12 ∧ jn fs12 5 = some (jI x13) ∧
    ∃ (a14 : Nat) (fs15 : List JVal) (v16 : JVal), r_1 = some a14 ∧ (jup H3 a8 (jO 1 (jset fs9 4 (jI x7)))).1 a14 = some (true, jO 1 fs15) ∧ jn fs15 5 = some v16 ∧
    ∃ (a17 : Nat) (fs18 : List JVal) (x19 : Int32), r_0 = some a17 ∧ job (jup (jup H3 a8 (jO 1 (jset fs9 4 (jI x7)))) a14 (jO 1 (jset fs15 5 (jI x13)))) a17 1 fs18 ∧ jn fs18 6 = some (jI x19) ∧
    ∃ (a20 : Nat) (fs21 : List JVal) (v22 : JVal), r_1 = some a20 ∧ (jup (jup H3 a8 (jO 1 (jset fs9 4 (jI x7)))) a14 (jO 1 (jset fs15 5 (jI x13)))).1 a20 = some (true, jO 1 fs21) ∧ jn fs21 6 = some v22 ∧
    ∃ (a23 : Nat) (fs24 : List JVal) (x25 : Int32), r_0 = some a23 ∧ job (jup (jup (jup H3 a8 (jO 1 (jset fs9 4 (jI x7)))) a14 (jO 1 (jset fs15 5 (jI x13)))) a20 (jO 1 (jset fs21 6 (jI x19)))) a23 1 fs24 ∧ jn fs24 7 = some (jI x25) ∧
    ∃ (a26 : Nat) (fs27 : List JVal) (v28 : JVal), r_1 = some a26 ∧ (jup (jup (jup H3 a8 (jO 1 (jset fs9 4 (jI x7)))) a14 (jO 1 (jset fs15 5 (jI x13)))) a20 (jO 1 (jset fs21 6 (jI x19)))).1 a26 = some (true, jO 1 fs27) ∧ jn fs27 7 = some v28 ∧
    ∃ (a29 : Nat) (fs30 : List JVal) (x31 : Int32), r_0 = some a29 ∧ job (jup (jup (jup (jup H3 a8 (jO 1 (jset fs9 4 (jI x7)))) a14 (jO 1 (jset fs15 5 (jI x13)))) a20 (jO 1 (jset fs21 6 (jI x19)))) a26 (jO 1 (jset fs27 7 (jI x25)))) a29 1 fs30 ∧ jn fs30 8 = some (jI x31) ∧
    ∃ (a32 : Nat) (fs33 : List JVal) (v34 : JVal), r_1 = some a32 ∧ (jup (jup (jup (jup H3 a8 (jO 1 (jset fs9 4 (jI x7)))) a14 (jO 1 (jset fs15 5 (jI x13)))) a20 (jO 1 (jset fs21 6 (jI x19)))) a26 (jO 1 (jset fs27 7 (jI x25)))).1 a32 = some (true, jO 1 fs33) ∧ jn fs33 8 = some v34 ∧
    Rt (.inl (some (jR r_1))) (jup (jup (jup (jup (jup H3 a8 (jO 1 (jset fs9 4 (jI x7)))) a14 (jO 1 (jset fs15 5 (jI x13)))) a20 (jO 1 (jset fs21 6 (jI x19)))) a26 (jO 1 (jset fs27 7 (jI x25)))) a32 (jO 1 (jset fs33 8 (jI x31))))) ∧
  (¬ x4 = 0 →
    ∃ (a35 : Nat) (fs36 : List JVal), r_2 = some a35 ∧ job H3 a35 26 fs36 ∧ /- J34_next -/ ∃ (r38 : Option Nat) (H37 : JHp), jok (jprog G) 97 [jR r_2] H3 (.inl (some (jR r38))) H37 ∧
    (∀ a, r38 = some a → ∃ fs, job H37 a 7 fs) ∧
    ∃ (a39 : Nat) (fs40 : List JVal) (r41 : Option Nat), r_1 = some a39 ∧ job H37 a39 1 fs40 ∧ jn fs40 3 = some (jR r41) ∧
    ∃ (a42 : Nat) (fs43 : List JVal), r41 = some a42 ∧ job H37 a42 14 fs43 ∧ /- J7_addLast -/ ∃ H44 : JHp, jok (jprog G) 100 [jR r41, jR r38] H37 (.inl none) H44 ∧
    jwp (jprog G) 101 Rt 181 [some (jR r_0), some (jR r_1), some (jR r_2), some (jR r38), q_4, q_5] [] H44)) :
  jwp (jprog G) 101 Rt 181 [some (jR r_0), some (jR r_1), some (jR r_2), q_3, q_4, q_5] [] H :=
  junf_wp (jprog_nf G) (stop := jmem [16, 58, 102, 181]) (pX1_copy G) 4000 _ _ _ _ h
/-- UnheardBells restore()I @0 -/
theorem gX0_restore_0 (G : JG) {Rt : JRt} (this : Option Nat) {H : JHp} (h :
  ∃ (a1 : Nat) (fs2 : List JVal) (r3 : Option Nat), this = some a1 ∧ job H a1 0 fs2 ∧ jn fs2 2 = some (jR r3) ∧
  ((¬ r3 = none) →
    ∃ (a4 : Nat) (fs5 : List JVal) (r6 : Option Nat), this = some a4 ∧ job H a4 0 fs5 ∧ jn fs5 2 = some (jR r6) ∧
    ∃ (a7 : Nat) (fs8 : List JVal), r6 = some a7 ∧ job H a7 1 fs8 ∧ /- X1_copy -/ ∃ (r10 : Option Nat) (H9 : JHp), jok (jprog G) 101 [jR r6] H (.inl (some (jR r10))) H9 ∧
    ∃ (a11 : Nat) (fs12 : List JVal) (v13 : JVal), this = some a11 ∧ H9.1 a11 = some (true, jO 0 fs12) ∧ jn fs12 1 = some v13 ∧
    ∃ (a14 : Nat) (fs15 : List JVal) (r16 : Option Nat), this = some a14 ∧ job (jup H9 a11 (jO 0 (jset fs12 1 (jR r10)))) a14 0 fs15 ∧ jn fs15 3 = some (jR r16) ∧
    ∃ (a17 : Nat) (fs18 : List JVal), r16 = some a17 ∧ job (jup H9 a11 (jO 0 (jset fs12 1 (jR r10)))) a17 14 fs18 ∧ /- J7_clear -/ ∃ H19 : JHp, jok (jprog G) 103 [jR r16] (jup H9 a11 (jO 0 (jset fs12 1 (jR r10)))) (.inl none) H19 ∧
    ∃ (a20 : Nat) (fs21 : List JVal) (r22 : Option Nat), this = some a20 ∧ job H19 a20 0 fs21 ∧ jn fs21 1 = some (jR r22) ∧
    ∃ (a23 : Nat) (fs24 : List JVal) (r25 : Option Nat), r22 = some a23 ∧ job H19 a23 1 fs24 ∧ jn fs24 0 = some (jR r25) ∧
    ∃ (a26 : Nat) (fs27 : List JVal), r25 = some a26 ∧ job H19 a26 11 fs27 ∧ /- J2_size -/ ∃ (x29 : Int32) (H28 : JHp), jok (jprog G) 104 [jR r25] H19 (.inl (some (jI x29))) H28 ∧
    Rt (.inl (some (jI x29))) H28) ∧
  (¬ (¬ r3 = none) →
    Rt (.inl (some (jI (-1015)))) H)) :
  jwp (jprog G) 105 Rt 0 [some (jR this)] [] H :=
  junf_wp (jprog_nf G) (stop := jmem []) (pX0_restore G) 4000 _ _ _ _ h
/-- UnheardBells save()I @0 -/
theorem gX0_save_0 (G : JG) {Rt : JRt} (this : Option Nat) {H : JHp} (h :
  ∃ (a1 : Nat) (fs2 : List JVal) (r3 : Option Nat), this = some a1 ∧ job H a1 0 fs2 ∧ jn fs2 1 = some (jR r3) ∧
  ∃ (a4 : Nat) (fs5 : List JVal), r3 = some a4 ∧ job H a4 1 fs5 ∧ /- X1_copy -/ ∃ (r7 : Option Nat) (H6 : JHp), jok (jprog G) 101 [jR r3] H (.inl (some (jR r7))) H6 ∧
  ∃ (a8 : Nat) (fs9 : List JVal) (v10 : JVal), this = some a8 ∧ H6.1 a8 = some (true, jO 0 fs9) ∧ jn fs9 2 = some v10 ∧
  ∃ (a11 : Nat) (fs12 : List JVal) (r13 : Option Nat), this = some a11 ∧ job (jup H6 a8 (jO 0 (jset fs9 2 (jR r7)))) a11 0 fs12 ∧ jn fs12 2 = some (jR r13) ∧
  ∃ (a14 : Nat) (fs15 : List JVal) (r16 : Option Nat), r13 = some a14 ∧ job (jup H6 a8 (jO 0 (jset fs9 2 (jR r7)))) a14 1 fs15 ∧ jn fs15 0 = some (jR r16) ∧
  ∃ (a17 : Nat) (fs18 : List JVal), r16 = some a17 ∧ job (jup H6 a8 (jO 0 (jset fs9 2 (jR r7)))) a17 11 fs18 ∧ /- J2_size -/ ∃ (x20 : Int32) (H19 : JHp), jok (jprog G) 104 [jR r16] (jup H6 a8 (jO 0 (jset fs9 2 (jR r7)))) (.inl (some (jI x20))) H19 ∧
  Rt (.inl (some (jI x20))) H19) :
  jwp (jprog G) 108 Rt 0 [some (jR this)] [] H :=
  junf_wp (jprog_nf G) (stop := jmem []) (pX0_save G) 4000 _ _ _ _ h
/-- UnheardBells undo()I @0 -/
theorem gX0_undo_0 (G : JG) {Rt : JRt} (this : Option Nat) {H : JHp} (h :
  ∃ (a1 : Nat) (fs2 : List JVal) (r3 : Option Nat), this = some a1 ∧ job H a1 0 fs2 ∧ jn fs2 3 = some (jR r3) ∧
  ∃ (a4 : Nat) (fs5 : List JVal), r3 = some a4 ∧ job H a4 14 fs5 ∧ /- J7_isEmpty -/ ∃ (x7 : Int32) (H6 : JHp), jok (jprog G) 28 [jR r3] H (.inl (some (jI x7))) H6 ∧
  (x7 = 0 →
    ∃ (a8 : Nat) (fs9 : List JVal) (r10 : Option Nat), this = some a8 ∧ job H6 a8 0 fs9 ∧ jn fs9 3 = some (jR r10) ∧
    ∃ (a11 : Nat) (fs12 : List JVal), r10 = some a11 ∧ job H6 a11 14 fs12 ∧ /- J7_removeLast -/ ∃ (r14 : Option Nat) (H13 : JHp), jok (jprog G) 112 [jR r10] H6 (.inl (some (jR r14))) H13 ∧
    (∀ a, r14 = some a → ∃ fs, job H13 a 1 fs) ∧
    ∃ (a15 : Nat) (fs16 : List JVal) (v17 : JVal), this = some a15 ∧ H13.1 a15 = some (true, jO 0 fs16) ∧ jn fs16 1 = some v17 ∧
    ∃ (a18 : Nat) (fs19 : List JVal) (r20 : Option Nat), this = some a18 ∧ job (jup H13 a15 (jO 0 (jset fs16 1 (jR r14)))) a18 0 fs19 ∧ jn fs19 3 = some (jR r20) ∧
    ∃ (a21 : Nat) (fs22 : List JVal), r20 = some a21 ∧ job (jup H13 a15 (jO 0 (jset fs16 1 (jR r14)))) a21 14 fs22 ∧ /- J7_size -/ ∃ (x24 : Int32) (H23 : JHp), jok (jprog G) 92 [jR r20] (jup H13 a15 (jO 0 (jset fs16 1 (jR r14)))) (.inl (some (jI x24))) H23 ∧
    Rt (.inl (some (jI x24))) H23) ∧
  (¬ x7 = 0 →
    Rt (.inl (some (jI (-1015)))) H6)) :
  jwp (jprog G) 113 Rt 0 [some (jR this)] [] H :=
  junf_wp (jprog_nf G) (stop := jmem []) (pX0_undo G) 4000 _ _ _ _ h
/-- UnheardBells lambda$new$0(ILUnheardBells$Rope;)I @0 -/
theorem gX0_lambda_new_0_0 (G : JG) {Rt : JRt} (i_0 : Int32) (r_1 : Option Nat) {H : JHp} (h :
  (¬ i_0 = (1 : Int32) →
    (¬ i_0 = 0 →
      ∃ (a1 : Nat) (fs2 : List JVal) (x3 : Int32), r_1 = some a1 ∧ job H a1 4 fs2 ∧ jn fs2 5 = some (jI x3) ∧
      Rt (.inl (some (jI x3))) H) ∧
    (¬ ¬ i_0 = 0 →
      ∃ (a4 : Nat) (fs5 : List JVal) (x6 : Int32), r_1 = some a4 ∧ job H a4 4 fs5 ∧ jn fs5 4 = some (jI x6) ∧
      Rt (.inl (some (jI x6))) H)) ∧
  (¬ ¬ i_0 = (1 : Int32) →
    ∃ (a7 : Nat) (fs8 : List JVal) (x9 : Int32), r_1 = some a7 ∧ job H a7 4 fs8 ∧ jn fs8 3 = some (jI x9) ∧
    Rt (.inl (some (jI x9))) H)) :
  jwp (jprog G) 115 Rt 0 [some (jI i_0), some (jR r_1)] [] H :=
  junf_wp (jprog_nf G) (stop := jmem []) (pX0_lambda_new_0 G) 4000 _ _ _ _ h
/-- UnheardBells$Machine all(LUnheardBells$Count;)I @0 -/
theorem gX1_all_0 (G : JG) {Rt : JRt} (this : Option Nat) (r_1 : Option Nat) {H : JHp} (h :
  ∃ (a1 : Nat) (fs2 : List JVal) (r3 : Option Nat), this = some a1 ∧ job H a1 1 fs2 ∧ jn fs2 0 = some (jR r3) ∧
  ∃ (a4 : Nat) (fs5 : List JVal), r3 = some a4 ∧ job H a4 11 fs5 ∧ /- J2_iterator -/ ∃ (r7 : Option Nat) (H6 : JHp), jok (jprog G) 18 [jR r3] H (.inl (some (jR r7))) H6 ∧
  jwp (jprog G) 116 Rt 10 [some (jR this), some (jR r_1), some (jI 0), some (jR r7), none] [] H6) :
  jwp (jprog G) 116 Rt 0 [some (jR this), some (jR r_1), none, none, none] [] H :=
  junf_wp (jprog_nf G) (stop := jmem [10]) (pX1_all G) 4000 _ _ _ _ h
/-- UnheardBells$Machine all(LUnheardBells$Count;)I @10 -/
theorem gX1_all_10 (G : JG) {Rt : JRt} (q_0 : Option JVal) (r_1 : Option Nat) (i_2 : Int32) (r_3 : Option Nat) (q_4 : Option JVal) {H : JHp} (h :
  ∃ (a1 : Nat) (fs2 : List JVal), r_3 = some a1 ∧ job H a1 17 fs2 ∧ /- J12_hasNext -/ ∃ (x4 : Int32) (H3 : JHp), jok (jprog G) 19 [jR r_3] H (.inl (some (jI x4))) H3 ∧
  (x4 = 0 →
    Rt (.inl (some (jI i_2))) H3) ∧
  (¬ x4 = 0 →
    ∃ (a5 : Nat) (fs6 : List JVal), r_3 = some a5 ∧ job H3 a5 17 fs6 ∧ /- J12_next -/ ∃ (r8 : Option Nat) (H7 : JHp), jok (jprog G) 21 [jR r_3] H3 (.inl (some (jR r8))) H7 ∧
    (∀ a, r8 = some a → ∃ fs, job H7 a 4 fs) ∧
    ∃ (a9 : Nat) (x10 x11 : Int32) (H12 : JHp), r_1 = some a9 ∧ job H7 a9 999 [jI x10] ∧ jok (jprog G) 115 [jI x10, jR r8] H7 (.inl (some (jI x11))) H12 ∧
    jwp (jprog G) 116 Rt 10 [q_0, some (jR r_1), some (jI (i_2 + x11)), some (jR r_3), some (jR r8)] [] H12)) :
  jwp (jprog G) 116 Rt 10 [q_0, some (jR r_1), some (jI i_2), some (jR r_3), q_4] [] H :=
  junf_wp (jprog_nf G) (stop := jmem [10]) (pX1_all G) 4000 _ _ _ _ h
/-- UnheardBells answerShare()F @0 -/
theorem gX0_answerShare_0 (G : JG) {Rt : JRt} (this : Option Nat) {H : JHp} (h :
  ∃ (a1 : Nat) (fs2 : List JVal) (r3 : Option Nat), this = some a1 ∧ job H a1 0 fs2 ∧ jn fs2 1 = some (jR r3) ∧
  ∃ (a4 : Nat) (fs5 : List JVal) (r6 : Option Nat), this = some a4 ∧ job H a4 0 fs5 ∧ jn fs5 0 = some (jR r6) ∧
  ∃ (a7 n8 : Nat) (f9 : Nat → Option Nat), r6 = some a7 ∧ jar H a7 4 (aR n8 f9) ∧ vp_in (1 : Int32) n8 ∧
  ∃ (a10 : Nat) (fs11 : List JVal), r3 = some a10 ∧ job H a10 1 fs11 ∧ /- X1_all -/ ∃ (x13 : Int32) (H12 : JHp), jok (jprog G) 116 [jR r3, jR (f9 ((1 : Int32)).toNatClampNeg)] H (.inl (some (jI x13))) H12 ∧
  ∃ (a14 : Nat) (fs15 : List JVal) (r16 : Option Nat), this = some a14 ∧ job H12 a14 0 fs15 ∧ jn fs15 1 = some (jR r16) ∧
  ∃ (a17 : Nat) (fs18 : List JVal) (r19 : Option Nat), this = some a17 ∧ job H12 a17 0 fs18 ∧ jn fs18 0 = some (jR r19) ∧
  ∃ (a20 n21 : Nat) (f22 : Nat → Option Nat), r19 = some a20 ∧ jar H12 a20 4 (aR n21 f22) ∧ vp_in (0 : Int32) n21 ∧
  ∃ (a23 : Nat) (fs24 : List JVal), r16 = some a23 ∧ job H12 a23 1 fs24 ∧ /- X1_all -/ ∃ (x26 : Int32) (H25 : JHp), jok (jprog G) 116 [jR r16, jR (f22 ((0 : Int32)).toNatClampNeg)] H12 (.inl (some (jI x26))) H25 ∧
  ∃ (a27 : Nat) (fs28 : List JVal) (r29 : Option Nat), this = some a27 ∧ job H25 a27 0 fs28 ∧ jn fs28 1 = some (jR r29) ∧
  ∃ (a30 : Nat) (fs31 : List JVal) (r32 : Option Nat), this = some a30 ∧ job H25 a30 0 fs31 ∧ jn fs31 0 = some (jR r32) ∧
  ∃ (a33 n34 : Nat) (f35 : Nat → Option Nat), r32 = some a33 ∧ jar H25 a33 4 (aR n34 f35) ∧ vp_in (2 : Int32) n34 ∧
  ∃ (a36 : Nat) (fs37 : List JVal), r29 = some a36 ∧ job H25 a36 1 fs37 ∧ /- X1_all -/ ∃ (x39 : Int32) (H38 : JHp), jok (jprog G) 116 [jR r29, jR (f35 ((2 : Int32)).toNatClampNeg)] H25 (.inl (some (jI x39))) H38 ∧
  (¬ ((x13 + x26) + x39) = 0 →
    vf_n32 (FP.fdiv (FP.i2f x13) (FP.i2f ((x13 + x26) + x39))) ∧
    Rt (.inl (some (jF (FP.fdiv (FP.i2f x13) (FP.i2f ((x13 + x26) + x39)))))) H38) ∧
  (¬ ¬ ((x13 + x26) + x39) = 0 →
    Rt (.inl (some (jF FP.fconst0))) H38)) :
  jwp (jprog G) 117 Rt 0 [some (jR this), none, none] [] H :=
  junf_wp (jprog_nf G) (stop := jmem []) (pX0_answerShare G) 4000 _ _ _ _ h
/-- UnheardBells$Machine rust()I @0 -/
theorem gX1_rust_0 (G : JG) {Rt : JRt} (this : Option Nat) {H : JHp} (h :
  ∃ (a1 : Nat) (fs2 : List JVal) (r3 : Option Nat), this = some a1 ∧ job H a1 1 fs2 ∧ jn fs2 0 = some (jR r3) ∧
  ∃ (a4 : Nat) (fs5 : List JVal), r3 = some a4 ∧ job H a4 11 fs5 ∧ /- J2_iterator -/ ∃ (r7 : Option Nat) (H6 : JHp), jok (jprog G) 18 [jR r3] H (.inl (some (jR r7))) H6 ∧
  jwp (jprog G) 119 Rt 10 [some (jR this), some (jI 0), some (jR r7), none] [] H6) :
  jwp (jprog G) 119 Rt 0 [some (jR this), none, none, none] [] H :=
  junf_wp (jprog_nf G) (stop := jmem [10]) (pX1_rust G) 4000 _ _ _ _ h
/-- UnheardBells$Machine rust()I @10 -/
theorem gX1_rust_10 (G : JG) {Rt : JRt} (q_0 : Option JVal) (i_1 : Int32) (r_2 : Option Nat) (q_3 : Option JVal) {H : JHp} (h :
  ∃ (a1 : Nat) (fs2 : List JVal), r_2 = some a1 ∧ job H a1 17 fs2 ∧ /- J12_hasNext -/ ∃ (x4 : Int32) (H3 : JHp), jok (jprog G) 19 [jR r_2] H (.inl (some (jI x4))) H3 ∧
  (x4 = 0 →
    Rt (.inl (some (jI i_1))) H3) ∧
  (¬ x4 = 0 →
    ∃ (a5 : Nat) (fs6 : List JVal), r_2 = some a5 ∧ job H3 a5 17 fs6 ∧ /- J12_next -/ ∃ (r8 : Option Nat) (H7 : JHp), jok (jprog G) 21 [jR r_2] H3 (.inl (some (jR r8))) H7 ∧
    (∀ a, r8 = some a → ∃ fs, job H7 a 4 fs) ∧
    ∃ (a9 : Nat) (fs10 : List JVal) (x11 : Int32), r8 = some a9 ∧ job H7 a9 4 fs10 ∧ jn fs10 2 = some (jI x11) ∧
    jwp (jprog G) 119 Rt 10 [(jclr q_0), some (jI (i_1 + x11)), some (jR r_2), some (jR r8)] [] H7)) :
  jwp (jprog G) 119 Rt 10 [q_0, some (jI i_1), some (jR r_2), q_3] [] H :=
  junf_wp (jprog_nf G) (stop := jmem [10]) (pX1_rust G) 4000 _ _ _ _ h
/-- UnheardBells meanRust()D @0 -/
theorem gX0_meanRust_0 (G : JG) {Rt : JRt} (this : Option Nat) {H : JHp} (h :
  ∃ (a1 : Nat) (fs2 : List JVal) (r3 : Option Nat), this = some a1 ∧ job H a1 0 fs2 ∧ jn fs2 1 = some (jR r3) ∧
  ∃ (a4 : Nat) (fs5 : List JVal) (r6 : Option Nat), r3 = some a4 ∧ job H a4 1 fs5 ∧ jn fs5 0 = some (jR r6) ∧
  ∃ (a7 : Nat) (fs8 : List JVal), r6 = some a7 ∧ job H a7 11 fs8 ∧ /- J2_size -/ ∃ (x10 : Int32) (H9 : JHp), jok (jprog G) 104 [jR r6] H (.inl (some (jI x10))) H9 ∧
  (¬ x10 = 0 →
    ∃ (a11 : Nat) (fs12 : List JVal) (r13 : Option Nat), this = some a11 ∧ job H9 a11 0 fs12 ∧ jn fs12 1 = some (jR r13) ∧
    ∃ (a14 : Nat) (fs15 : List JVal), r13 = some a14 ∧ job H9 a14 1 fs15 ∧ /- X1_rust -/ ∃ (x17 : Int32) (H16 : JHp), jok (jprog G) 119 [jR r13] H9 (.inl (some (jI x17))) H16 ∧
    vf_n64 (FP.ddiv (FP.i2d x17) (FP.i2d x10)) ∧
    Rt (.inl (some (jD (FP.ddiv (FP.i2d x17) (FP.i2d x10))))) H16) ∧
  (¬ ¬ x10 = 0 →
    Rt (.inl (some (jD FP.dconst0))) H9)) :
  jwp (jprog G) 120 Rt 0 [some (jR this), none] [] H :=
  junf_wp (jprog_nf G) (stop := jmem []) (pX0_meanRust G) 4000 _ _ _ _ h
/-- UnheardBells$Machine counted([LUnheardBells$Count;)I @0 -/
theorem gX1_counted_0 (G : JG) {Rt : JRt} (this : Option Nat) (r_1 : Option Nat) {H : JHp} (h :
  ∃ (a1 : Nat) (fs2 : List JVal) (r3 : Option Nat), this = some a1 ∧ job H a1 1 fs2 ∧ jn fs2 1 = some (jR r3) ∧
  ∃ (a4 : Nat) (fs5 : List JVal), r3 = some a4 ∧ job H a4 12 fs5 ∧ /- J4_size -/ ∃ (x7 : Int32) (H6 : JHp), jok (jprog G) 124 [jR r3] H (.inl (some (jI x7))) H6 ∧
  ∃ (a8 : Nat) (fs9 : List JVal) (x10 : Int32), this = some a8 ∧ job H6 a8 1 fs9 ∧ jn fs9 8 = some (jI x10) ∧
  ∃ (a11 : Nat) (A12 : vp_A), r_1 = some a11 ∧ jar H6 a11 4 A12 ∧
  jwp (jprog G) 125 Rt 22 [some (jR this), some (jR r_1), some (jI (x7 + x10)), some (jR r_1), some (jI (nI A12.1)), some (jI 0), none] [] H6) :
  jwp (jprog G) 125 Rt 0 [some (jR this), some (jR r_1), none, none, none, none, none] [] H :=
  junf_wp (jprog_nf G) (stop := jmem [22]) (pX1_counted G) 4000 _ _ _ _ h
/-- UnheardBells$Machine counted([LUnheardBells$Count;)I @22 -/
theorem gX1_counted_22 (G : JG) {Rt : JRt} (r_0 : Option Nat) (q_1 : Option JVal) (i_2 : Int32) (r_3 : Option Nat) (i_4 : Int32) (i_5 : Int32) (q_6 : Option JVal) {H : JHp} (h :
  (i_4 ≤ i_5 →
    Rt (.inl (some (jI i_2))) H) ∧
  (¬ i_4 ≤ i_5 →
    ∃ (a1 n2 : Nat) (f3 : Nat → Option Nat), r_3 = some a1 ∧ jar H a1 4 (aR n2 f3) ∧ vp_in i_5 n2 ∧
    ∃ (a4 : Nat) (fs5 : List JVal), r_0 = some a4 ∧ job H a4 1 fs5 ∧ /- X1_all -/ ∃ (x7 : Int32) (H6 : JHp), jok (jprog G) 116 [jR r_0, jR (f3 (i_5).toNatClampNeg)] H (.inl (some (jI x7))) H6 ∧
    jwp (jprog G) 125 Rt 22 [some (jR r_0), (jclr q_1), some (jI (i_2 + x7)), some (jR r_3), some (jI i_4), some (jI (i_5 + 1)), some (jR (f3 (i_5).toNatClampNeg))] [] H6)) :
  jwp (jprog G) 125 Rt 22 [some (jR r_0), q_1, some (jI i_2), some (jR r_3), some (jI i_4), some (jI i_5), q_6] [] H :=
  junf_wp (jprog_nf G) (stop := jmem [22]) (pX1_counted G) 4000 _ _ _ _ h
/-- UnheardBells$Machine answeredIn(I)Ljava/util/BitSet; @0 -/
theorem gX1_answeredIn_0 (G : JG) {Rt : JRt} (this : Option Nat) (i_1 : Int32) {H : JHp} (h :
  ∃ (a1 : Nat) (fs2 : List JVal) (r3 : Option Nat), this = some a1 ∧ job H a1 1 fs2 ∧ jn fs2 2 = some (jR r3) ∧
  /- J25_valueOf -/ ∃ (r5 : Option Nat) (H4 : JHp), jok (jprog G) 67 [jI i_1] H (.inl (some (jR r5))) H4 ∧
  ∃ (a6 : Nat) (fs7 : List JVal), r3 = some a6 ∧ job H4 a6 13 fs7 ∧ /- J6_get -/ ∃ (r9 : Option Nat) (H8 : JHp), jok (jprog G) 73 [jR r3, jR r5] H4 (.inl (some (jR r9))) H8 ∧
  (∀ a, r9 = some a → ∃ fs, job H8 a 24 fs) ∧
  ((¬ r9 = none) →
    Rt (.inl (some (jR r9))) H8) ∧
  (¬ (¬ r9 = none) →
    ∃ a10 : Nat, (some H8.2.1) = some a10 ∧ /- J32_init -/ ∃ H11 : JHp, jok (jprog G) 64 [jR (some H8.2.1)] (jnew H8 (jO 24 [jR none, jI 0, jI 0]) 3) (.inl none) H11 ∧
    Rt (.inl (some (jR (some H8.2.1)))) H11)) :
  jwp (jprog G) 133 Rt 0 [some (jR this), some (jI i_1), none] [] H :=
  junf_wp (jprog_nf G) (stop := jmem []) (pX1_answeredIn G) 4000 _ _ _ _ h
/-- UnheardBells$Rope wouldAnswer(I)Z @0 -/
theorem gX4_wouldAnswer_0 (G : JG) {Rt : JRt} (this : Option Nat) (i_1 : Int32) {H : JHp} (h :
  ∃ (a1 : Nat) (fs2 : List JVal) (x3 : Int32), this = some a1 ∧ job H a1 4 fs2 ∧ jn fs2 1 = some (jI x3) ∧
  (x3 = 0 →
    jbool (0 : Int32) ∧ Rt (.inl (some (jI 0))) H) ∧
  (¬ x3 = 0 →
    ∃ (a4 : Nat) (fs5 : List JVal) (x6 : Int32), this = some a4 ∧ job H a4 4 fs5 ∧ jn fs5 2 = some (jI x6) ∧
    (i_1 ≤ x6 →
      jbool (0 : Int32) ∧ Rt (.inl (some (jI 0))) H) ∧
    (¬ i_1 ≤ x6 →
      jbool (1 : Int32) ∧ Rt (.inl (some (jI 1))) H))) :
  jwp (jprog G) 135 Rt 0 [some (jR this), some (jI i_1)] [] H :=
  junf_wp (jprog_nf G) (stop := jmem []) (pX4_wouldAnswer G) 4000 _ _ _ _ h
/-- UnheardBells$Rope answers()V @0 -/
theorem gX4_answers_0 (G : JG) {Rt : JRt} (this : Option Nat) {H : JHp} (h :
  ∃ (a1 : Nat) (fs2 : List JVal) (x3 : Int32), this = some a1 ∧ job H a1 4 fs2 ∧ jn fs2 3 = some (jI x3) ∧
  ∃ (a4 : Nat) (fs5 : List JVal) (v6 : JVal), this = some a4 ∧ H.1 a4 = some (true, jO 4 fs5) ∧ jn fs5 3 = some v6 ∧
  ∃ (a7 : Nat) (fs8 : List JVal) (x9 : Int32), this = some a7 ∧ job (jup H a4 (jO 4 (jset fs5 3 (jI (x3 + (1 : Int32)))))) a7 4 fs8 ∧ jn fs8 2 = some (jI x9) ∧
  /- J20_min -/ ∃ (x11 : Int32) (H10 : JHp), jok (jprog G) 37 [jI 9, jI (x9 + (1 : Int32))] (jup H a4 (jO 4 (jset fs5 3 (jI (x3 + (1 : Int32)))))) (.inl (some (jI x11))) H10 ∧
  ∃ (a12 : Nat) (fs13 : List JVal) (v14 : JVal), this = some a12 ∧ H10.1 a12 = some (true, jO 4 fs13) ∧ jn fs13 2 = some v14 ∧
  Rt (.inl none) (jup H10 a12 (jO 4 (jset fs13 2 (jI x11))))) :
  jwp (jprog G) 136 Rt 0 [some (jR this)] [] H :=
  junf_wp (jprog_nf G) (stop := jmem []) (pX4_answers G) 4000 _ _ _ _ h
/-- UnheardBells$Answer <init>(LUnheardBells$Pull;I)V @0 -/
theorem gX7_init_0 (G : JG) {Rt : JRt} (this : Option Nat) (r_1 : Option Nat) (i_2 : Int32) {H : JHp} (h :
  ∃ a1 : Nat, this = some a1 ∧
  ∃ (a2 : Nat) (fs3 : List JVal) (x4 : Int32), r_1 = some a2 ∧ job H a2 6 fs3 ∧ jn fs3 0 = some (jI x4) ∧
  ∃ (a5 : Nat) (fs6 : List JVal) (v7 : JVal), this = some a5 ∧ H.1 a5 = some (true, jO 7 fs6) ∧ jn fs6 0 = some v7 ∧
  ∃ (a8 : Nat) (fs9 : List JVal) (x10 : Int32), r_1 = some a8 ∧ job (jup H a5 (jO 7 (jset fs6 0 (jI x4)))) a8 6 fs9 ∧ jn fs9 1 = some (jI x10) ∧
  ∃ (a11 : Nat) (fs12 : List JVal) (v13 : JVal), this = some a11 ∧ (jup H a5 (jO 7 (jset fs6 0 (jI x4)))).1 a11 = some (true, jO 7 fs12) ∧ jn fs12 1 = some v13 ∧
  ∃ (a14 : Nat) (fs15 : List JVal) (x16 : Int32), r_1 = some a14 ∧ job (jup (jup H a5 (jO 7 (jset fs6 0 (jI x4)))) a11 (jO 7 (jset fs12 1 (jI x10)))) a14 6 fs15 ∧ jn fs15 2 = some (jI x16) ∧
  ∃ (a17 : Nat) (fs18 : List JVal) (v19 : JVal), this = some a17 ∧ (jup (jup H a5 (jO 7 (jset fs6 0 (jI x4)))) a11 (jO 7 (jset fs12 1 (jI x10)))).1 a17 = some (true, jO 7 fs18) ∧ jn fs18 3 = some v19 ∧
  ∃ (a20 : Nat) (fs21 : List JVal) (v22 : JVal), this = some a20 ∧ (jup (jup (jup H a5 (jO 7 (jset fs6 0 (jI x4)))) a11 (jO 7 (jset fs12 1 (jI x10)))) a17 (jO 7 (jset fs18 3 (jI x16)))).1 a20 = some (true, jO 7 fs21) ∧ jn fs21 2 = some v22 ∧
  Rt (.inl none) (jup (jup (jup (jup H a5 (jO 7 (jset fs6 0 (jI x4)))) a11 (jO 7 (jset fs12 1 (jI x10)))) a17 (jO 7 (jset fs18 3 (jI x16)))) a20 (jO 7 (jset fs21 2 (jI i_2))))) :
  jwp (jprog G) 137 Rt 0 [some (jR this), some (jR r_1), some (jI i_2)] [] H :=
  junf_wp (jprog_nf G) (stop := jmem []) (pX7_init G) 4000 _ _ _ _ h
/-- UnheardBells$Machine remembers(LUnheardBells$Pull;)V @0 -/
theorem gX1_remembers_0 (G : JG) {Rt : JRt} (this : Option Nat) (r_1 : Option Nat) {H : JHp} (h :
  ∃ (a1 : Nat) (fs2 : List JVal) (r3 : Option Nat), this = some a1 ∧ job H a1 1 fs2 ∧ jn fs2 3 = some (jR r3) ∧
  ∃ (a4 : Nat) (fs5 : List JVal) (x6 : Int32), this = some a4 ∧ job (jnew H (jO 7 [jI 0, jI 0, jI 0, jI 0]) 4) a4 1 fs5 ∧ jn fs5 5 = some (jI x6) ∧
  ∃ a7 : Nat, (some H.2.1) = some a7 ∧ /- X7_init -/ ∃ H8 : JHp, jok (jprog G) 137 [jR (some H.2.1), jR r_1, jI x6] (jnew H (jO 7 [jI 0, jI 0, jI 0, jI 0]) 4) (.inl none) H8 ∧
  ∃ (a9 : Nat) (fs10 : List JVal), r3 = some a9 ∧ job H8 a9 14 fs10 ∧ /- J7_addFirst -/ ∃ H11 : JHp, jok (jprog G) 138 [jR r3, jR (some H.2.1)] H8 (.inl none) H11 ∧
  ∃ (a12 : Nat) (fs13 : List JVal) (r14 : Option Nat), this = some a12 ∧ job H11 a12 1 fs13 ∧ jn fs13 3 = some (jR r14) ∧
  ∃ (a15 : Nat) (fs16 : List JVal), r14 = some a15 ∧ job H11 a15 14 fs16 ∧ /- J7_size -/ ∃ (x18 : Int32) (H17 : JHp), jok (jprog G) 92 [jR r14] H11 (.inl (some (jI x18))) H17 ∧
  (x18 ≤ (20 : Int32) →
    jwp (jprog G) 141 Rt 42 [some (jR this), some (jR r_1), none, none] [] H17) ∧
  (¬ x18 ≤ (20 : Int32) →
    ∃ (a19 : Nat) (fs20 : List JVal) (r21 : Option Nat), this = some a19 ∧ job H17 a19 1 fs20 ∧ jn fs20 3 = some (jR r21) ∧
    ∃ (a22 : Nat) (fs23 : List JVal), r21 = some a22 ∧ job H17 a22 14 fs23 ∧ /- J7_removeLast -/ ∃ (r25 : Option Nat) (H24 : JHp), jok (jprog G) 112 [jR r21] H17 (.inl (some (jR r25))) H24 ∧
    (∀ a, r25 = some a → ∃ fs, job H24 a 7 fs) ∧
    jwp (jprog G) 141 Rt 42 [some (jR this), some (jR r_1), some (jR r25), none] [] H24)) :
  jwp (jprog G) 141 Rt 0 [some (jR this), some (jR r_1), none, none] [] H :=
  junf_wp (jprog_nf G) (stop := jmem [42]) (pX1_remembers G) 4000 _ _ _ _ h
/-- UnheardBells$Machine remembers(LUnheardBells$Pull;)V @42 -/
theorem gX1_remembers_42 (G : JG) {Rt : JRt} (r_0 : Option Nat) (r_1 : Option Nat) (q_2 : Option JVal) (q_3 : Option JVal) {H : JHp} (h :
  ∃ (a1 : Nat) (fs2 : List JVal) (x3 : Int32), r_1 = some a1 ∧ job H a1 6 fs2 ∧ jn fs2 1 = some (jI x3) ∧
  ∃ (a4 : Nat) (fs5 : List JVal), r_0 = some a4 ∧ job H a4 1 fs5 ∧ /- X1_answeredIn -/ ∃ (r7 : Option Nat) (H6 : JHp), jok (jprog G) 133 [jR r_0, jI x3] H (.inl (some (jR r7))) H6 ∧
  ∃ (a8 : Nat) (fs9 : List JVal) (x10 : Int32), r_1 = some a8 ∧ job H6 a8 6 fs9 ∧ jn fs9 0 = some (jI x10) ∧
  ∃ (a11 : Nat) (fs12 : List JVal), r7 = some a11 ∧ job H6 a11 24 fs12 ∧ /- J32_set -/ ∃ H13 : JHp, jok (jprog G) 140 [jR r7, jI x10] H6 (.inl none) H13 ∧
  ∃ (a14 : Nat) (fs15 : List JVal) (r16 : Option Nat), r_0 = some a14 ∧ job H13 a14 1 fs15 ∧ jn fs15 2 = some (jR r16) ∧
  ∃ (a17 : Nat) (fs18 : List JVal) (x19 : Int32), r_1 = some a17 ∧ job H13 a17 6 fs18 ∧ jn fs18 1 = some (jI x19) ∧
  /- J25_valueOf -/ ∃ (r21 : Option Nat) (H20 : JHp), jok (jprog G) 67 [jI x19] H13 (.inl (some (jR r21))) H20 ∧
  ∃ (a22 : Nat) (fs23 : List JVal), r16 = some a22 ∧ job H20 a22 13 fs23 ∧ /- J6_put -/ ∃ (r25 : Option Nat) (H24 : JHp), jok (jprog G) 90 [jR r16, jR r21, jR r7] H20 (.inl (some (jR r25))) H24 ∧
  (∀ a, r25 = some a → ∃ fs, job H24 a 24 fs) ∧
  Rt (.inl none) H24) :
  jwp (jprog G) 141 Rt 42 [some (jR r_0), some (jR r_1), q_2, q_3] [] H :=
  junf_wp (jprog_nf G) (stop := jmem [42]) (pX1_remembers G) 4000 _ _ _ _ h
/-- UnheardBells$Machine rings()I @0 -/
theorem gX1_rings_0 (G : JG) {Rt : JRt} (this : Option Nat) {H : JHp} (h :
  ∃ (a1 : Nat) (fs2 : List JVal) (r3 : Option Nat), this = some a1 ∧ job H a1 1 fs2 ∧ jn fs2 1 = some (jR r3) ∧
  ∃ (a4 : Nat) (fs5 : List JVal), r3 = some a4 ∧ job H a4 12 fs5 ∧ /- J4_poll -/ ∃ (r7 : Option Nat) (H6 : JHp), jok (jprog G) 128 [jR r3] H (.inl (some (jR r7))) H6 ∧
  (∀ a, r7 = some a → ∃ fs, job H6 a 6 fs) ∧
  ∃ (a8 : Nat) (fs9 : List JVal) (r10 : Option Nat), this = some a8 ∧ job H6 a8 1 fs9 ∧ jn fs9 0 = some (jR r10) ∧
  ∃ (a11 : Nat) (fs12 : List JVal) (x13 : Int32), r7 = some a11 ∧ job H6 a11 6 fs12 ∧ jn fs12 0 = some (jI x13) ∧
  ∃ (a14 : Nat) (fs15 : List JVal), r10 = some a14 ∧ job H6 a14 11 fs15 ∧ /- J2_get -/ ∃ (r17 : Option Nat) (H16 : JHp), jok (jprog G) 132 [jR r10, jI x13] H6 (.inl (some (jR r17))) H16 ∧
  (∀ a, r17 = some a → ∃ fs, job H16 a 4 fs) ∧
  ∃ (a18 : Nat) (fs19 : List JVal) (x20 : Int32), r7 = some a18 ∧ job H16 a18 6 fs19 ∧ jn fs19 1 = some (jI x20) ∧
  ∃ (a21 : Nat) (fs22 : List JVal) (v23 : JVal), this = some a21 ∧ H16.1 a21 = some (true, jO 1 fs22) ∧ jn fs22 4 = some v23 ∧
  ∃ (a24 : Nat) (fs25 : List JVal) (x26 : Int32), this = some a24 ∧ job (jup H16 a21 (jO 1 (jset fs22 4 (jI x20)))) a24 1 fs25 ∧ jn fs25 7 = some (jI x26) ∧
  ∃ (a27 : Nat) (fs28 : List JVal) (v29 : JVal), this = some a27 ∧ (jup H16 a21 (jO 1 (jset fs22 4 (jI x20)))).1 a27 = some (true, jO 1 fs28) ∧ jn fs28 7 = some v29 ∧
  ∃ (a30 : Nat) (fs31 : List JVal) (x32 : Int32), this = some a30 ∧ job (jup (jup H16 a21 (jO 1 (jset fs22 4 (jI x20)))) a27 (jO 1 (jset fs28 7 (jI (x26 + (1 : Int32)))))) a30 1 fs31 ∧ jn fs31 4 = some (jI x32) ∧
  ∃ (a33 : Nat) (fs34 : List JVal), this = some a33 ∧ job (jup (jup H16 a21 (jO 1 (jset fs22 4 (jI x20)))) a27 (jO 1 (jset fs28 7 (jI (x26 + (1 : Int32)))))) a33 1 fs34 ∧ /- X1_answeredIn -/ ∃ (r36 : Option Nat) (H35 : JHp), jok (jprog G) 133 [jR this, jI x32] (jup (jup H16 a21 (jO 1 (jset fs22 4 (jI x20)))) a27 (jO 1 (jset fs28 7 (jI (x26 + (1 : Int32)))))) (.inl (some (jR r36))) H35 ∧
  ∃ (a37 : Nat) (fs38 : List JVal) (x39 : Int32), r7 = some a37 ∧ job H35 a37 6 fs38 ∧ jn fs38 0 = some (jI x39) ∧
  ∃ (a40 : Nat) (fs41 : List JVal), r36 = some a40 ∧ job H35 a40 24 fs41 ∧ /- J32_get -/ ∃ (x43 : Int32) (H42 : JHp), jok (jprog G) 134 [jR r36, jI x39] H35 (.inl (some (jI x43))) H42 ∧
  (x43 = 0 →
    ∃ (a44 : Nat) (fs45 : List JVal) (x46 : Int32), r7 = some a44 ∧ job H42 a44 6 fs45 ∧ jn fs45 2 = some (jI x46) ∧
    ∃ (a47 : Nat) (fs48 : List JVal), r17 = some a47 ∧ job H42 a47 4 fs48 ∧ /- X4_wouldAnswer -/ ∃ (x50 : Int32) (H49 : JHp), jok (jprog G) 135 [jR r17, jI x46] H42 (.inl (some (jI x50))) H49 ∧
    (¬ x50 = 0 →
      ∃ (a51 : Nat) (fs52 : List JVal), r17 = some a51 ∧ job H49 a51 4 fs52 ∧ /- X4_answers -/ ∃ H53 : JHp, jok (jprog G) 136 [jR r17] H49 (.inl none) H53 ∧
      ∃ (a54 : Nat) (fs55 : List JVal), this = some a54 ∧ job H53 a54 1 fs55 ∧ /- X1_remembers -/ ∃ H56 : JHp, jok (jprog G) 141 [jR this, jR r7] H53 (.inl none) H56 ∧
      Rt (.inl (some (jI 1))) H56) ∧
    (¬ ¬ x50 = 0 →
      ∃ (a57 : Nat) (fs58 : List JVal) (x59 : Int32), r17 = some a57 ∧ job H49 a57 4 fs58 ∧ jn fs58 4 = some (jI x59) ∧
      ∃ (a60 : Nat) (fs61 : List JVal) (v62 : JVal), r17 = some a60 ∧ H49.1 a60 = some (true, jO 4 fs61) ∧ jn fs61 4 = some v62 ∧
      Rt (.inl (some (jI 0))) (jup H49 a60 (jO 4 (jset fs61 4 (jI (x59 + (1 : Int32)))))))) ∧
  (¬ x43 = 0 →
    ∃ (a63 : Nat) (fs64 : List JVal) (x65 : Int32), r17 = some a63 ∧ job H42 a63 4 fs64 ∧ jn fs64 5 = some (jI x65) ∧
    ∃ (a66 : Nat) (fs67 : List JVal) (v68 : JVal), r17 = some a66 ∧ H42.1 a66 = some (true, jO 4 fs67) ∧ jn fs67 5 = some v68 ∧
    Rt (.inl (some (jI 2))) (jup H42 a66 (jO 4 (jset fs67 5 (jI (x65 + (1 : Int32)))))))) :
  jwp (jprog G) 142 Rt 0 [some (jR this), none, none] [] H :=
  junf_wp (jprog_nf G) (stop := jmem []) (pX1_rings G) 4000 _ _ _ _ h
/-- UnheardBells$Machine forecast()I @0 -/
theorem gX1_forecast_0 (G : JG) {Rt : JRt} (this : Option Nat) {H : JHp} (h :
  ∃ (a1 : Nat) (fs2 : List JVal), this = some a1 ∧ job H a1 1 fs2 ∧ /- X1_copy -/ ∃ (r4 : Option Nat) (H3 : JHp), jok (jprog G) 101 [jR this] H (.inl (some (jR r4))) H3 ∧
  jwp (jprog G) 143 Rt 7 [some (jR this), some (jR r4), some (jI 0)] [] H3) :
  jwp (jprog G) 143 Rt 0 [some (jR this), none, none] [] H :=
  junf_wp (jprog_nf G) (stop := jmem [7]) (pX1_forecast G) 4000 _ _ _ _ h
/-- UnheardBells$Machine forecast()I @7 -/
theorem gX1_forecast_7 (G : JG) {Rt : JRt} (q_0 : Option JVal) (r_1 : Option Nat) (i_2 : Int32) {H : JHp} (h :
  ∃ (a1 : Nat) (fs2 : List JVal) (r3 : Option Nat), r_1 = some a1 ∧ job H a1 1 fs2 ∧ jn fs2 1 = some (jR r3) ∧
  ∃ (a4 : Nat) (fs5 : List JVal), r3 = some a4 ∧ job H a4 12 fs5 ∧ /- J0_isEmpty__J4 -/ ∃ (x7 : Int32) (H6 : JHp), jok (jprog G) 126 [jR r3] H (.inl (some (jI x7))) H6 ∧
  (¬ x7 = 0 →
    Rt (.inl (some (jI i_2))) H6) ∧
  (¬ ¬ x7 = 0 →
    ∃ (a8 : Nat) (fs9 : List JVal), r_1 = some a8 ∧ job H6 a8 1 fs9 ∧ /- X1_rings -/ ∃ (x11 : Int32) (H10 : JHp), jok (jprog G) 142 [jR r_1] H6 (.inl (some (jI x11))) H10 ∧
    (¬ x11 = (1 : Int32) →
      jwp (jprog G) 143 Rt 7 [q_0, some (jR r_1), some (jI (i_2 + (0 : Int32)))] [] H10) ∧
    (¬ ¬ x11 = (1 : Int32) →
      jwp (jprog G) 143 Rt 7 [q_0, some (jR r_1), some (jI (i_2 + (1 : Int32)))] [] H10))) :
  jwp (jprog G) 143 Rt 7 [q_0, some (jR r_1), some (jI i_2)] [] H :=
  junf_wp (jprog_nf G) (stop := jmem [7]) (pX1_forecast G) 4000 _ _ _ _ h
/-- UnheardBells$Machine inOrder()Ljava/util/LinkedList; @0 -/
theorem gX1_inOrder_0 (G : JG) {Rt : JRt} (this : Option Nat) {H : JHp} (h :
  ∃ a1 : Nat, (some (jnew H (jO 12 [jR none, jI 0, jR none, jI 0]) 4).2.1) = some a1 ∧ /- X2_init -/ ∃ H2 : JHp, jok (jprog G) 3 [jR (some (jnew H (jO 12 [jR none, jI 0, jR none, jI 0]) 4).2.1)] (jnew (jnew H (jO 12 [jR none, jI 0, jR none, jI 0]) 4) (jO 2 []) 0) (.inl none) H2 ∧
  ∃ a3 : Nat, (some H.2.1) = some a3 ∧ /- J4_init -/ ∃ H4 : JHp, jok (jprog G) 7 [jR (some H.2.1), jR (some (jnew H (jO 12 [jR none, jI 0, jR none, jI 0]) 4).2.1)] H2 (.inl none) H4 ∧
  ∃ (a5 : Nat) (fs6 : List JVal) (r7 : Option Nat), this = some a5 ∧ job H4 a5 1 fs6 ∧ jn fs6 1 = some (jR r7) ∧
  ∃ (a8 : Nat) (fs9 : List JVal), r7 = some a8 ∧ job H4 a8 12 fs9 ∧ /- J4_iterator -/ ∃ (r11 : Option Nat) (H10 : JHp), jok (jprog G) 27 [jR r7] H4 (.inl (some (jR r11))) H10 ∧
  jwp (jprog G) 151 Rt 23 [some (jR this), some (jR (some H.2.1)), some (jR r11), none] [] H10) :
  jwp (jprog G) 151 Rt 0 [some (jR this), none, none, none] [] H :=
  junf_wp (jprog_nf G) (stop := jmem [23, 59]) (pX1_inOrder G) 4000 _ _ _ _ h
/-- UnheardBells$Machine inOrder()Ljava/util/LinkedList; @23 -/
theorem gX1_inOrder_23 (G : JG) {Rt : JRt} (q_0 : Option JVal) (r_1 : Option Nat) (r_2 : Option Nat) (q_3 : Option JVal) {H : JHp} (h :
  ∃ (a1 : Nat) (fs2 : List JVal), r_2 = some a1 ∧ job H a1 20 fs2 ∧ /- J23_hasNext -/ ∃ (x4 : Int32) (H3 : JHp), jok (jprog G) 29 [jR r_2] H (.inl (some (jI x4))) H3 ∧
  (x4 = 0 →
    ∃ a5 : Nat, (some H3.2.1) = some a5 ∧ /- J36_init -/ ∃ H6 : JHp, jok (jprog G) 147 [jR (some H3.2.1)] (jnew H3 (jO 27 [jI 0, jI 0, jR none, jR none]) 4) (.inl none) H6 ∧
    jwp (jprog G) 151 Rt 59 [q_0, some (jR r_1), some (jR (some H3.2.1)), q_3] [] H6) ∧
  (¬ x4 = 0 →
    ∃ (a7 : Nat) (fs8 : List JVal), r_2 = some a7 ∧ job H3 a7 20 fs8 ∧ /- J23_next -/ ∃ (r10 : Option Nat) (H9 : JHp), jok (jprog G) 34 [jR r_2] H3 (.inl (some (jR r10))) H9 ∧
    (∀ a, r10 = some a → ∃ fs, job H9 a 6 fs) ∧
    ∃ (a11 : Nat) (fs12 : List JVal), r_1 = some a11 ∧ job H9 a11 12 fs12 ∧ /- J4_add -/ ∃ (x14 : Int32) (H13 : JHp), jok (jprog G) 46 [jR r_1, jR r10] H9 (.inl (some (jI x14))) H13 ∧
    jwp (jprog G) 151 Rt 23 [q_0, some (jR r_1), some (jR r_2), some (jR r10)] [] H13)) :
  jwp (jprog G) 151 Rt 23 [q_0, some (jR r_1), some (jR r_2), q_3] [] H :=
  junf_wp (jprog_nf G) (stop := jmem [23, 59]) (pX1_inOrder G) 4000 _ _ _ _ h
/-- UnheardBells$Machine inOrder()Ljava/util/LinkedList; @59 -/
theorem gX1_inOrder_59 (G : JG) {Rt : JRt} (q_0 : Option JVal) (r_1 : Option Nat) (r_2 : Option Nat) (q_3 : Option JVal) {H : JHp} (h :
  ∃ (a1 : Nat) (fs2 : List JVal), r_1 = some a1 ∧ job H a1 12 fs2 ∧ /- J0_isEmpty__J4 -/ ∃ (x4 : Int32) (H3 : JHp), jok (jprog G) 126 [jR r_1] H (.inl (some (jI x4))) H3 ∧
  (¬ x4 = 0 →
    Rt (.inl (some (jR r_2))) H3) ∧
  (¬ ¬ x4 = 0 →
    ∃ (a5 : Nat) (fs6 : List JVal), r_1 = some a5 ∧ job H3 a5 12 fs6 ∧ /- J4_poll -/ ∃ (r8 : Option Nat) (H7 : JHp), jok (jprog G) 128 [jR r_1] H3 (.inl (some (jR r8))) H7 ∧
    (∀ a, r8 = some a → ∃ fs, job H7 a 6 fs) ∧
    ∃ (a9 : Nat) (fs10 : List JVal), r_2 = some a9 ∧ job H7 a9 27 fs10 ∧ /- J36_addLast -/ ∃ H11 : JHp, jok (jprog G) 150 [jR r_2, jR r8] H7 (.inl none) H11 ∧
    jwp (jprog G) 151 Rt 59 [q_0, some (jR r_1), some (jR r_2), q_3] [] H11)) :
  jwp (jprog G) 151 Rt 59 [q_0, some (jR r_1), some (jR r_2), q_3] [] H :=
  junf_wp (jprog_nf G) (stop := jmem [23, 59]) (pX1_inOrder G) 4000 _ _ _ _ h
/-- UnheardBells$Machine forecastOf(ILjava/util/LinkedList;)I @0 -/
theorem gX1_forecastOf_0 (G : JG) {Rt : JRt} (this : Option Nat) (i_1 : Int32) (r_2 : Option Nat) {H : JHp} (h :
  ∃ (a1 : Nat) (fs2 : List JVal) (r3 : Option Nat), this = some a1 ∧ job H a1 1 fs2 ∧ jn fs2 0 = some (jR r3) ∧
  ∃ (a4 : Nat) (fs5 : List JVal), r3 = some a4 ∧ job H a4 11 fs5 ∧ /- J2_get -/ ∃ (r7 : Option Nat) (H6 : JHp), jok (jprog G) 132 [jR r3, jI i_1] H (.inl (some (jR r7))) H6 ∧
  (∀ a, r7 = some a → ∃ fs, job H6 a 4 fs) ∧
  ∃ (a8 : Nat) (fs9 : List JVal) (x10 : Int32), r7 = some a8 ∧ job H6 a8 4 fs9 ∧ jn fs9 2 = some (jI x10) ∧
  ∃ (a11 : Nat) (fs12 : List JVal), r_2 = some a11 ∧ job H6 a11 27 fs12 ∧ /- J35_iterator__J36 -/ ∃ (r14 : Option Nat) (H13 : JHp), jok (jprog G) 158 [jR r_2] H6 (.inl (some (jR r14))) H13 ∧
  jwp (jprog G) 162 Rt 32 [some (jR this), some (jI i_1), some (jR r_2), some (jR r7), some (jI x10), some (jI (-1011)), some (jI 0), some (jR r14), none, none] [] H13) :
  jwp (jprog G) 162 Rt 0 [some (jR this), some (jI i_1), some (jR r_2), none, none, none, none, none, none, none] [] H :=
  junf_wp (jprog_nf G) (stop := jmem [32, 85]) (pX1_forecastOf G) 4000 _ _ _ _ h
/-- UnheardBells$Machine forecastOf(ILjava/util/LinkedList;)I @32 -/
theorem gX1_forecastOf_32 (G : JG) {Rt : JRt} (r_0 : Option Nat) (i_1 : Int32) (q_2 : Option JVal) (r_3 : Option Nat) (i_4 : Int32) (i_5 : Int32) (i_6 : Int32) (r_7 : Option Nat) (q_8 : Option JVal) (q_9 : Option JVal) {H : JHp} (h :
  ∃ (a1 : Nat) (fs2 : List JVal), r_7 = some a1 ∧ job H a1 31 fs2 ∧ /- J41_hasNext -/ ∃ (x4 : Int32) (H3 : JHp), jok (jprog G) 159 [jR r_7] H (.inl (some (jI x4))) H3 ∧
  (x4 = 0 →
    Rt (.inl (some (jI i_6))) H3) ∧
  (¬ x4 = 0 →
    ∃ (a5 : Nat) (fs6 : List JVal), r_7 = some a5 ∧ job H3 a5 31 fs6 ∧ /- J41_next -/ ∃ (r8 : Option Nat) (H7 : JHp), jok (jprog G) 161 [jR r_7] H3 (.inl (some (jR r8))) H7 ∧
    (∀ a, r8 = some a → ∃ fs, job H7 a 6 fs) ∧
    ∃ (a9 : Nat) (fs10 : List JVal) (x11 : Int32), r8 = some a9 ∧ job H7 a9 6 fs10 ∧ jn fs10 1 = some (jI x11) ∧
    (i_5 = x11 →
      jwp (jprog G) 162 Rt 85 [some (jR r_0), some (jI i_1), q_2, some (jR r_3), some (jI i_4), some (jI i_5), some (jI i_6), some (jR r_7), some (jR r8), q_9] [jI 1] H7) ∧
    (¬ i_5 = x11 →
      ∃ (a12 : Nat) (fs13 : List JVal) (x14 : Int32), r8 = some a12 ∧ job H7 a12 6 fs13 ∧ jn fs13 1 = some (jI x14) ∧
      ∃ (a15 : Nat) (fs16 : List JVal), r_0 = some a15 ∧ job H7 a15 1 fs16 ∧ /- X1_answeredIn -/ ∃ (r18 : Option Nat) (H17 : JHp), jok (jprog G) 133 [jR r_0, jI x14] H7 (.inl (some (jR r18))) H17 ∧
      ∃ (a19 : Nat) (fs20 : List JVal), r18 = some a19 ∧ job H17 a19 24 fs20 ∧ /- J32_get -/ ∃ (x22 : Int32) (H21 : JHp), jok (jprog G) 134 [jR r18, jI i_1] H17 (.inl (some (jI x22))) H21 ∧
      (x22 = 0 →
        jwp (jprog G) 162 Rt 85 [some (jR r_0), some (jI i_1), q_2, some (jR r_3), some (jI i_4), some (jI i_5), some (jI i_6), some (jR r_7), some (jR r8), q_9] [jI 0] H21) ∧
      (¬ x22 = 0 →
        jwp (jprog G) 162 Rt 85 [some (jR r_0), some (jI i_1), q_2, some (jR r_3), some (jI i_4), some (jI i_5), some (jI i_6), some (jR r_7), some (jR r8), q_9] [jI 1] H21)))) :
  jwp (jprog G) 162 Rt 32 [some (jR r_0), some (jI i_1), q_2, some (jR r_3), some (jI i_4), some (jI i_5), some (jI i_6), some (jR r_7), q_8, q_9] [] H :=
  junf_wp (jprog_nf G) (stop := jmem [32, 85]) (pX1_forecastOf G) 4000 _ _ _ _ h
/-- UnheardBells$Machine forecastOf(ILjava/util/LinkedList;)I @85 -/
theorem gX1_forecastOf_85 (G : JG) {Rt : JRt} (r_0 : Option Nat) (i_1 : Int32) (q_2 : Option JVal) (r_3 : Option Nat) (i_4 : Int32) (i_5 : Int32) (i_6 : Int32) (r_7 : Option Nat) (r_8 : Option Nat) (q_9 : Option JVal) (si_0 : Int32) {H : JHp} (h :
  ∃ (a1 : Nat) (fs2 : List JVal) (x3 : Int32), r_8 = some a1 ∧ job H a1 6 fs2 ∧ jn fs2 0 = some (jI x3) ∧
  (¬ x3 = i_1 →
    jwp (jprog G) 162 Rt 32 [some (jR r_0), some (jI i_1), q_2, some (jR r_3), some (jI i_4), some (jI i_5), some (jI i_6), some (jR r_7), some (jR r_8), some (jI si_0)] [] H) ∧
  (¬ ¬ x3 = i_1 →
    ∃ (a4 : Nat) (fs5 : List JVal) (x6 : Int32), r_3 = some a4 ∧ job H a4 4 fs5 ∧ jn fs5 1 = some (jI x6) ∧
    (x6 = 0 →
      jwp (jprog G) 162 Rt 32 [some (jR r_0), some (jI i_1), q_2, some (jR r_3), some (jI i_4), some (jI i_5), some (jI i_6), some (jR r_7), some (jR r_8), some (jI si_0)] [] H) ∧
    (¬ x6 = 0 →
      (¬ si_0 = 0 →
        jwp (jprog G) 162 Rt 32 [some (jR r_0), some (jI i_1), q_2, some (jR r_3), some (jI i_4), some (jI i_5), some (jI i_6), some (jR r_7), some (jR r_8), some (jI si_0)] [] H) ∧
      (¬ ¬ si_0 = 0 →
        ∃ (a7 : Nat) (fs8 : List JVal) (x9 : Int32), r_8 = some a7 ∧ job H a7 6 fs8 ∧ jn fs8 2 = some (jI x9) ∧
        (x9 ≤ i_4 →
          jwp (jprog G) 162 Rt 32 [some (jR r_0), some (jI i_1), q_2, some (jR r_3), some (jI i_4), some (jI i_5), some (jI i_6), some (jR r_7), some (jR r_8), some (jI si_0)] [] H) ∧
        (¬ x9 ≤ i_4 →
          /- J20_min -/ ∃ (x11 : Int32) (H10 : JHp), jok (jprog G) 37 [jI 9, jI (i_4 + (1 : Int32))] H (.inl (some (jI x11))) H10 ∧
          ∃ (a12 : Nat) (fs13 : List JVal) (x14 : Int32), r_8 = some a12 ∧ job H10 a12 6 fs13 ∧ jn fs13 1 = some (jI x14) ∧
          jwp (jprog G) 162 Rt 32 [some (jR r_0), some (jI i_1), q_2, some (jR r_3), some (jI x11), some (jI x14), some (jI (i_6 + 1)), some (jR r_7), some (jR r_8), some (jI si_0)] [] H10))))) :
  jwp (jprog G) 162 Rt 85 [some (jR r_0), some (jI i_1), q_2, some (jR r_3), some (jI i_4), some (jI i_5), some (jI i_6), some (jR r_7), some (jR r_8), q_9] [jI si_0] H :=
  junf_wp (jprog_nf G) (stop := jmem [32, 85]) (pX1_forecastOf G) 4000 _ _ _ _ h
/-- UnheardBells$Machine forecastAgain()I @0 -/
theorem gX1_forecastAgain_0 (G : JG) {Rt : JRt} (this : Option Nat) {H : JHp} (h :
  ∃ (a1 : Nat) (fs2 : List JVal), this = some a1 ∧ job H a1 1 fs2 ∧ /- X1_inOrder -/ ∃ (r4 : Option Nat) (H3 : JHp), jok (jprog G) 151 [jR this] H (.inl (some (jR r4))) H3 ∧
  jwp (jprog G) 163 Rt 9 [some (jR this), some (jR r4), some (jI 0), some (jI 0)] [] H3) :
  jwp (jprog G) 163 Rt 0 [some (jR this), none, none, none] [] H :=
  junf_wp (jprog_nf G) (stop := jmem [9]) (pX1_forecastAgain G) 4000 _ _ _ _ h
/-- UnheardBells$Machine forecastAgain()I @9 -/
theorem gX1_forecastAgain_9 (G : JG) {Rt : JRt} (r_0 : Option Nat) (r_1 : Option Nat) (i_2 : Int32) (i_3 : Int32) {H : JHp} (h :
  ∃ (a1 : Nat) (fs2 : List JVal) (r3 : Option Nat), r_0 = some a1 ∧ job H a1 1 fs2 ∧ jn fs2 0 = some (jR r3) ∧
  ∃ (a4 : Nat) (fs5 : List JVal), r3 = some a4 ∧ job H a4 11 fs5 ∧ /- J2_size -/ ∃ (x7 : Int32) (H6 : JHp), jok (jprog G) 104 [jR r3] H (.inl (some (jI x7))) H6 ∧
  (x7 ≤ i_3 →
    Rt (.inl (some (jI i_2))) H6) ∧
  (¬ x7 ≤ i_3 →
    ∃ (a8 : Nat) (fs9 : List JVal), r_0 = some a8 ∧ job H6 a8 1 fs9 ∧ /- X1_forecastOf -/ ∃ (x11 : Int32) (H10 : JHp), jok (jprog G) 162 [jR r_0, jI i_3, jR r_1] H6 (.inl (some (jI x11))) H10 ∧
    jwp (jprog G) 163 Rt 9 [some (jR r_0), some (jR r_1), some (jI (i_2 + x11)), some (jI (i_3 + 1))] [] H10)) :
  jwp (jprog G) 163 Rt 9 [some (jR r_0), some (jR r_1), some (jI i_2), some (jI i_3)] [] H :=
  junf_wp (jprog_nf G) (stop := jmem [9]) (pX1_forecastAgain G) 4000 _ _ _ _ h
/-- UnheardBells$Machine answeredOf(II)I @0 -/
theorem gX1_answeredOf_0 (G : JG) {Rt : JRt} (this : Option Nat) (i_1 : Int32) (i_2 : Int32) {H : JHp} (h :
  jwp (jprog G) 164 Rt 5 [some (jR this), some (jI i_1), some (jI i_2), some (jI 0), some (jI 0)] [] H) :
  jwp (jprog G) 164 Rt 0 [some (jR this), some (jI i_1), some (jI i_2), none, none] [] H :=
  junf_wp (jprog_nf G) (stop := jmem [5]) (pX1_answeredOf G) 4000 _ _ _ _ h
/-- UnheardBells$Machine answeredOf(II)I @5 -/
theorem gX1_answeredOf_5 (G : JG) {Rt : JRt} (r_0 : Option Nat) (i_1 : Int32) (i_2 : Int32) (i_3 : Int32) (i_4 : Int32) {H : JHp} (h :
  ∃ (a1 : Nat) (fs2 : List JVal) (r3 : Option Nat), r_0 = some a1 ∧ job H a1 1 fs2 ∧ jn fs2 0 = some (jR r3) ∧
  ∃ (a4 : Nat) (fs5 : List JVal), r3 = some a4 ∧ job H a4 11 fs5 ∧ /- J2_size -/ ∃ (x7 : Int32) (H6 : JHp), jok (jprog G) 104 [jR r3] H (.inl (some (jI x7))) H6 ∧
  (x7 ≤ i_4 →
    Rt (.inl (some (jI i_3))) H6) ∧
  (¬ x7 ≤ i_4 →
    ∃ (a8 : Nat) (fs9 : List JVal) (r10 : Option Nat), r_0 = some a8 ∧ job H6 a8 1 fs9 ∧ jn fs9 0 = some (jR r10) ∧
    ∃ (a11 : Nat) (fs12 : List JVal), r10 = some a11 ∧ job H6 a11 11 fs12 ∧ /- J2_get -/ ∃ (r14 : Option Nat) (H13 : JHp), jok (jprog G) 132 [jR r10, jI i_4] H6 (.inl (some (jR r14))) H13 ∧
    (∀ a, r14 = some a → ∃ fs, job H13 a 4 fs) ∧
    ∃ (a15 : Nat) (fs16 : List JVal) (x17 : Int32), r14 = some a15 ∧ job H13 a15 4 fs16 ∧ jn fs16 0 = some (jI x17) ∧
    (¬ x17 = i_1 →
      jwp (jprog G) 164 Rt 5 [some (jR r_0), some (jI i_1), some (jI i_2), some (jI (i_3 + (0 : Int32))), some (jI (i_4 + 1))] [] H13) ∧
    (¬ ¬ x17 = i_1 →
      ∃ (a18 : Nat) (fs19 : List JVal), r_0 = some a18 ∧ job H13 a18 1 fs19 ∧ /- X1_answeredIn -/ ∃ (r21 : Option Nat) (H20 : JHp), jok (jprog G) 133 [jR r_0, jI i_2] H13 (.inl (some (jR r21))) H20 ∧
      ∃ (a22 : Nat) (fs23 : List JVal), r21 = some a22 ∧ job H20 a22 24 fs23 ∧ /- J32_get -/ ∃ (x25 : Int32) (H24 : JHp), jok (jprog G) 134 [jR r21, jI i_4] H20 (.inl (some (jI x25))) H24 ∧
      (x25 = 0 →
        jwp (jprog G) 164 Rt 5 [some (jR r_0), some (jI i_1), some (jI i_2), some (jI (i_3 + (0 : Int32))), some (jI (i_4 + 1))] [] H24) ∧
      (¬ x25 = 0 →
        jwp (jprog G) 164 Rt 5 [some (jR r_0), some (jI i_1), some (jI i_2), some (jI (i_3 + (1 : Int32))), some (jI (i_4 + 1))] [] H24)))) :
  jwp (jprog G) 164 Rt 5 [some (jR r_0), some (jI i_1), some (jI i_2), some (jI i_3), some (jI i_4)] [] H :=
  junf_wp (jprog_nf G) (stop := jmem [5]) (pX1_answeredOf G) 4000 _ _ _ _ h
/-- UnheardBells$Machine ropesOf(I)I @0 -/
theorem gX1_ropesOf_0 (G : JG) {Rt : JRt} (this : Option Nat) (i_1 : Int32) {H : JHp} (h :
  ∃ (a1 : Nat) (fs2 : List JVal) (r3 : Option Nat), this = some a1 ∧ job H a1 1 fs2 ∧ jn fs2 0 = some (jR r3) ∧
  ∃ (a4 : Nat) (fs5 : List JVal), r3 = some a4 ∧ job H a4 11 fs5 ∧ /- J2_iterator -/ ∃ (r7 : Option Nat) (H6 : JHp), jok (jprog G) 18 [jR r3] H (.inl (some (jR r7))) H6 ∧
  jwp (jprog G) 165 Rt 10 [some (jR this), some (jI i_1), some (jI 0), some (jR r7), none] [] H6) :
  jwp (jprog G) 165 Rt 0 [some (jR this), some (jI i_1), none, none, none] [] H :=
  junf_wp (jprog_nf G) (stop := jmem [10]) (pX1_ropesOf G) 4000 _ _ _ _ h
/-- UnheardBells$Machine ropesOf(I)I @10 -/
theorem gX1_ropesOf_10 (G : JG) {Rt : JRt} (q_0 : Option JVal) (i_1 : Int32) (i_2 : Int32) (r_3 : Option Nat) (q_4 : Option JVal) {H : JHp} (h :
  ∃ (a1 : Nat) (fs2 : List JVal), r_3 = some a1 ∧ job H a1 17 fs2 ∧ /- J12_hasNext -/ ∃ (x4 : Int32) (H3 : JHp), jok (jprog G) 19 [jR r_3] H (.inl (some (jI x4))) H3 ∧
  (x4 = 0 →
    Rt (.inl (some (jI i_2))) H3) ∧
  (¬ x4 = 0 →
    ∃ (a5 : Nat) (fs6 : List JVal), r_3 = some a5 ∧ job H3 a5 17 fs6 ∧ /- J12_next -/ ∃ (r8 : Option Nat) (H7 : JHp), jok (jprog G) 21 [jR r_3] H3 (.inl (some (jR r8))) H7 ∧
    (∀ a, r8 = some a → ∃ fs, job H7 a 4 fs) ∧
    ∃ (a9 : Nat) (fs10 : List JVal) (x11 : Int32), r8 = some a9 ∧ job H7 a9 4 fs10 ∧ jn fs10 0 = some (jI x11) ∧
    (¬ x11 = i_1 →
      jwp (jprog G) 165 Rt 10 [q_0, some (jI i_1), some (jI (i_2 + (0 : Int32))), some (jR r_3), some (jR r8)] [] H7) ∧
    (¬ ¬ x11 = i_1 →
      jwp (jprog G) 165 Rt 10 [q_0, some (jI i_1), some (jI (i_2 + (1 : Int32))), some (jR r_3), some (jR r8)] [] H7))) :
  jwp (jprog G) 165 Rt 10 [q_0, some (jI i_1), some (jI i_2), some (jR r_3), q_4] [] H :=
  junf_wp (jprog_nf G) (stop := jmem [10]) (pX1_ropesOf G) 4000 _ _ _ _ h
/-- UnheardBells$Machine isMore(IIII)Z @0 -/
theorem gX1_isMore_0 (G : JG) {Rt : JRt} (i_0 : Int32) (i_1 : Int32) (i_2 : Int32) (i_3 : Int32) {H : JHp} (h :
  (((i_0 * i_3) - (i_2 * i_1)) = 0 →
    (i_0 ≤ i_2 →
      jbool (0 : Int32) ∧ Rt (.inl (some (jI 0))) H) ∧
    (¬ i_0 ≤ i_2 →
      jbool (1 : Int32) ∧ Rt (.inl (some (jI 1))) H)) ∧
  (¬ ((i_0 * i_3) - (i_2 * i_1)) = 0 →
    (((i_0 * i_3) - (i_2 * i_1)) ≤ 0 →
      jbool (0 : Int32) ∧ Rt (.inl (some (jI 0))) H) ∧
    (¬ ((i_0 * i_3) - (i_2 * i_1)) ≤ 0 →
      jbool (1 : Int32) ∧ Rt (.inl (some (jI 1))) H))) :
  jwp (jprog G) 166 Rt 0 [some (jI i_0), some (jI i_1), some (jI i_2), some (jI i_3), none] [] H :=
  junf_wp (jprog_nf G) (stop := jmem []) (pX1_isMore G) 4000 _ _ _ _ h
/-- UnheardBells$Machine guess(I)I @0 -/
theorem gX1_guess_0 (G : JG) {Rt : JRt} (this : Option Nat) (i_1 : Int32) {H : JHp} (h :
  jwp (jprog G) 167 Rt 6 [some (jR this), some (jI i_1), some (jI (-1015)), some (jI 0), none, none] [] H) :
  jwp (jprog G) 167 Rt 0 [some (jR this), some (jI i_1), none, none, none, none] [] H :=
  junf_wp (jprog_nf G) (stop := jmem [6, 55, 59]) (pX1_guess G) 4000 _ _ _ _ h
/-- UnheardBells$Machine guess(I)I @6 -/
theorem gX1_guess_6 (G : JG) {Rt : JRt} (r_0 : Option Nat) (i_1 : Int32) (i_2 : Int32) (i_3 : Int32) (q_4 : Option JVal) (q_5 : Option JVal) {H : JHp} (h :
  ((4 : Int32) ≤ i_3 →
    Rt (.inl (some (jI i_2))) H) ∧
  (¬ (4 : Int32) ≤ i_3 →
    ∃ (a1 : Nat) (fs2 : List JVal), r_0 = some a1 ∧ job H a1 1 fs2 ∧ /- X1_answeredOf -/ ∃ (x4 : Int32) (H3 : JHp), jok (jprog G) 164 [jR r_0, jI i_3, jI i_1] H (.inl (some (jI x4))) H3 ∧
    (x4 ≤ 0 →
      jwp (jprog G) 167 Rt 59 [some (jR r_0), some (jI i_1), some (jI i_2), some (jI i_3), some (jI x4), q_5] [] H3) ∧
    (¬ x4 ≤ 0 →
      (i_2 = (-1015 : Int32) →
        jwp (jprog G) 167 Rt 55 [some (jR r_0), some (jI i_1), some (jI i_2), some (jI i_3), some (jI x4), q_5] [] H3) ∧
      (¬ i_2 = (-1015 : Int32) →
        ∃ (a5 : Nat) (fs6 : List JVal), r_0 = some a5 ∧ job H3 a5 1 fs6 ∧ /- X1_ropesOf -/ ∃ (x8 : Int32) (H7 : JHp), jok (jprog G) 165 [jR r_0, jI i_3] H3 (.inl (some (jI x8))) H7 ∧
        ∃ (a9 : Nat) (fs10 : List JVal), r_0 = some a9 ∧ job H7 a9 1 fs10 ∧ /- X1_answeredOf -/ ∃ (x12 : Int32) (H11 : JHp), jok (jprog G) 164 [jR r_0, jI i_2, jI i_1] H7 (.inl (some (jI x12))) H11 ∧
        ∃ (a13 : Nat) (fs14 : List JVal), r_0 = some a13 ∧ job H11 a13 1 fs14 ∧ /- X1_ropesOf -/ ∃ (x16 : Int32) (H15 : JHp), jok (jprog G) 165 [jR r_0, jI i_2] H11 (.inl (some (jI x16))) H15 ∧
        /- X1_isMore -/ ∃ (x18 : Int32) (H17 : JHp), jok (jprog G) 166 [jI x4, jI x8, jI x12, jI x16] H15 (.inl (some (jI x18))) H17 ∧
        (x18 = 0 →
          jwp (jprog G) 167 Rt 59 [some (jR r_0), some (jI i_1), some (jI i_2), some (jI i_3), some (jI x4), q_5] [] H17) ∧
        (¬ x18 = 0 →
          jwp (jprog G) 167 Rt 55 [some (jR r_0), some (jI i_1), some (jI i_2), some (jI i_3), some (jI x4), q_5] [] H17))))) :
  jwp (jprog G) 167 Rt 6 [some (jR r_0), some (jI i_1), some (jI i_2), some (jI i_3), q_4, q_5] [] H :=
  junf_wp (jprog_nf G) (stop := jmem [6, 55, 59]) (pX1_guess G) 4000 _ _ _ _ h
/-- UnheardBells$Machine guess(I)I @55 -/
theorem gX1_guess_55 (G : JG) {Rt : JRt} (r_0 : Option Nat) (i_1 : Int32) (i_2 : Int32) (i_3 : Int32) (q_4 : Option JVal) (q_5 : Option JVal) {H : JHp} (h :
  ((1 : Int32) = 0 →
    jwp (jprog G) 167 Rt 6 [some (jR r_0), some (jI i_1), some (jI i_2), some (jI (i_3 + 1)), (jclr q_4), some (jI 1)] [] H) ∧
  (¬ (1 : Int32) = 0 →
    jwp (jprog G) 167 Rt 6 [some (jR r_0), some (jI i_1), some (jI i_3), some (jI (i_3 + 1)), (jclr q_4), some (jI 1)] [] H)) :
  jwp (jprog G) 167 Rt 55 [some (jR r_0), some (jI i_1), some (jI i_2), some (jI i_3), q_4, q_5] [] H :=
  junf_wp (jprog_nf G) (stop := jmem [6, 55, 59]) (pX1_guess G) 4000 _ _ _ _ h
/-- UnheardBells$Machine guess(I)I @59 -/
theorem gX1_guess_59 (G : JG) {Rt : JRt} (r_0 : Option Nat) (i_1 : Int32) (i_2 : Int32) (i_3 : Int32) (q_4 : Option JVal) (q_5 : Option JVal) {H : JHp} (h :
  ((0 : Int32) = 0 →
    jwp (jprog G) 167 Rt 6 [some (jR r_0), some (jI i_1), some (jI i_2), some (jI (i_3 + 1)), (jclr q_4), some (jI 0)] [] H) ∧
  (¬ (0 : Int32) = 0 →
    jwp (jprog G) 167 Rt 6 [some (jR r_0), some (jI i_1), some (jI i_3), some (jI (i_3 + 1)), (jclr q_4), some (jI 0)] [] H)) :
  jwp (jprog G) 167 Rt 59 [some (jR r_0), some (jI i_1), some (jI i_2), some (jI i_3), q_4, q_5] [] H :=
  junf_wp (jprog_nf G) (stop := jmem [6, 55, 59]) (pX1_guess G) 4000 _ _ _ _ h
/-- UnheardBells$Machine guessAgain(I)I @0 -/
theorem gX1_guessAgain_0 (G : JG) {Rt : JRt} (this : Option Nat) (i_1 : Int32) {H : JHp} (h :
  ¬ (4 : Int32) < 0 ∧ ((4 : Int32)).toNatClampNeg ≤ 65536 ∧
  ¬ (4 : Int32) < 0 ∧ ((4 : Int32)).toNatClampNeg ≤ 65536 ∧
  ∃ (a1 : Nat) (fs2 : List JVal), this = some a1 ∧ job (jnew (jnew H (jA 0 (aI ((4 : Int32)).toNatClampNeg (fun _ => 0))) ((4 : Int32)).toNatClampNeg) (jA 0 (aI ((4 : Int32)).toNatClampNeg (fun _ => 0))) ((4 : Int32)).toNatClampNeg) a1 1 fs2 ∧ /- X1_answeredIn -/ ∃ (r4 : Option Nat) (H3 : JHp), jok (jprog G) 133 [jR this, jI i_1] (jnew (jnew H (jA 0 (aI ((4 : Int32)).toNatClampNeg (fun _ => 0))) ((4 : Int32)).toNatClampNeg) (jA 0 (aI ((4 : Int32)).toNatClampNeg (fun _ => 0))) ((4 : Int32)).toNatClampNeg) (.inl (some (jR r4))) H3 ∧
  ∃ (a5 : Nat) (fs6 : List JVal), r4 = some a5 ∧ job H3 a5 24 fs6 ∧ /- J32_nextSetBit -/ ∃ (x8 : Int32) (H7 : JHp), jok (jprog G) 170 [jR r4, jI 0] H3 (.inl (some (jI x8))) H7 ∧
  jwp (jprog G) 171 Rt 28 [some (jR this), some (jI i_1), some (jR (some H.2.1)), some (jR (some (jnew H (jA 0 (aI ((4 : Int32)).toNatClampNeg (fun _ => 0))) ((4 : Int32)).toNatClampNeg).2.1)), some (jI (-1015)), some (jR r4), some (jI x8), none] [] H7) :
  jwp (jprog G) 171 Rt 0 [some (jR this), some (jI i_1), none, none, none, none, none, none] [] H :=
  junf_wp (jprog_nf G) (stop := jmem [28, 92, 145, 149]) (pX1_guessAgain G) 4000 _ _ _ _ h
/-- UnheardBells$Machine guessAgain(I)I @28 -/
theorem gX1_guessAgain_28 (G : JG) {Rt : JRt} (r_0 : Option Nat) (q_1 : Option JVal) (r_2 : Option Nat) (r_3 : Option Nat) (i_4 : Int32) (r_5 : Option Nat) (i_6 : Int32) (q_7 : Option JVal) {H : JHp} (h :
  (i_6 < 0 →
    jwp (jprog G) 171 Rt 92 [some (jR r_0), q_1, some (jR r_2), some (jR r_3), some (jI i_4), some (jR r_5), some (jI 3), q_7] [] H) ∧
  (¬ i_6 < 0 →
    ∃ (a1 : Nat) (fs2 : List JVal) (r3 : Option Nat), r_0 = some a1 ∧ job H a1 1 fs2 ∧ jn fs2 0 = some (jR r3) ∧
    ∃ (a4 : Nat) (fs5 : List JVal), r3 = some a4 ∧ job H a4 11 fs5 ∧ /- J2_get -/ ∃ (r7 : Option Nat) (H6 : JHp), jok (jprog G) 132 [jR r3, jI i_6] H (.inl (some (jR r7))) H6 ∧
    (∀ a, r7 = some a → ∃ fs, job H6 a 4 fs) ∧
    ∃ (a8 : Nat) (fs9 : List JVal) (x10 : Int32), r7 = some a8 ∧ job H6 a8 4 fs9 ∧ jn fs9 0 = some (jI x10) ∧
    ∃ (a11 n12 : Nat) (f13 : Nat → Int32), r_2 = some a11 ∧ jar H6 a11 0 (aI n12 f13) ∧ vp_in x10 n12 ∧
    ∃ (a14 : Nat) (fs15 : List JVal), r_0 = some a14 ∧ job H6 a14 1 fs15 ∧ /- X1_ropesOf -/ ∃ (x17 : Int32) (H16 : JHp), jok (jprog G) 165 [jR r_0, jI x10] H6 (.inl (some (jI x17))) H16 ∧
    ¬ x17 = 0 ∧
    ∃ (a18 n19 : Nat) (f20 : Nat → Int32), r_2 = some a18 ∧ H16.1 a18 = some (true, jA 0 (aI n19 f20)) ∧ vp_in x10 n19 ∧ 
    ∃ (a21 n22 : Nat) (f23 : Nat → Int32), r_3 = some a21 ∧ jar (jup H16 a18 (jA 0 (aI n19 (upd f20 (x10).toNatClampNeg ((f13 (x10).toNatClampNeg) + ((27720 : Int32) / x17)))))) a21 0 (aI n22 f23) ∧ vp_in x10 n22 ∧
    ∃ (a24 n25 : Nat) (f26 : Nat → Int32), r_3 = some a24 ∧ (jup H16 a18 (jA 0 (aI n19 (upd f20 (x10).toNatClampNeg ((f13 (x10).toNatClampNeg) + ((27720 : Int32) / x17)))))).1 a24 = some (true, jA 0 (aI n25 f26)) ∧ vp_in x10 n25 ∧ 
    ∃ (a27 : Nat) (fs28 : List JVal), r_5 = some a27 ∧ job (jup (jup H16 a18 (jA 0 (aI n19 (upd f20 (x10).toNatClampNeg ((f13 (x10).toNatClampNeg) + ((27720 : Int32) / x17)))))) a24 (jA 0 (aI n25 (upd f26 (x10).toNatClampNeg ((f23 (x10).toNatClampNeg) + (1 : Int32)))))) a27 24 fs28 ∧ /- J32_nextSetBit -/ ∃ (x30 : Int32) (H29 : JHp), jok (jprog G) 170 [jR r_5, jI (i_6 + (1 : Int32))] (jup (jup H16 a18 (jA 0 (aI n19 (upd f20 (x10).toNatClampNeg ((f13 (x10).toNatClampNeg) + ((27720 : Int32) / x17)))))) a24 (jA 0 (aI n25 (upd f26 (x10).toNatClampNeg ((f23 (x10).toNatClampNeg) + (1 : Int32)))))) (.inl (some (jI x30))) H29 ∧
    jwp (jprog G) 171 Rt 28 [some (jR r_0), q_1, some (jR r_2), some (jR r_3), some (jI i_4), some (jR r_5), some (jI x30), some (jI x10)] [] H29)) :
  jwp (jprog G) 171 Rt 28 [some (jR r_0), q_1, some (jR r_2), some (jR r_3), some (jI i_4), some (jR r_5), some (jI i_6), q_7] [] H :=
  junf_wp (jprog_nf G) (stop := jmem [28, 92, 145, 149]) (pX1_guessAgain G) 4000 _ _ _ _ h
/-- UnheardBells$Machine guessAgain(I)I @92 -/
theorem gX1_guessAgain_92 (G : JG) {Rt : JRt} (q_0 : Option JVal) (q_1 : Option JVal) (r_2 : Option Nat) (r_3 : Option Nat) (i_4 : Int32) (q_5 : Option JVal) (i_6 : Int32) (q_7 : Option JVal) {H : JHp} (h :
  (i_6 < 0 →
    Rt (.inl (some (jI i_4))) H) ∧
  (¬ i_6 < 0 →
    ∃ (a1 n2 : Nat) (f3 : Nat → Int32), r_3 = some a1 ∧ jar H a1 0 (aI n2 f3) ∧ vp_in i_6 n2 ∧
    ((f3 (i_6).toNatClampNeg) ≤ 0 →
      jwp (jprog G) 171 Rt 149 [q_0, q_1, some (jR r_2), some (jR r_3), some (jI i_4), q_5, some (jI i_6), q_7] [] H) ∧
    (¬ (f3 (i_6).toNatClampNeg) ≤ 0 →
      (i_4 = (-1015 : Int32) →
        jwp (jprog G) 171 Rt 145 [q_0, q_1, some (jR r_2), some (jR r_3), some (jI i_4), q_5, some (jI i_6), q_7] [] H) ∧
      (¬ i_4 = (-1015 : Int32) →
        ∃ (a4 n5 : Nat) (f6 : Nat → Int32), r_2 = some a4 ∧ jar H a4 0 (aI n5 f6) ∧ vp_in i_6 n5 ∧
        ∃ (a7 n8 : Nat) (f9 : Nat → Int32), r_2 = some a7 ∧ jar H a7 0 (aI n8 f9) ∧ vp_in i_4 n8 ∧
        ((f9 (i_4).toNatClampNeg) < (f6 (i_6).toNatClampNeg) →
          jwp (jprog G) 171 Rt 145 [q_0, q_1, some (jR r_2), some (jR r_3), some (jI i_4), q_5, some (jI i_6), q_7] [] H) ∧
        (¬ (f9 (i_4).toNatClampNeg) < (f6 (i_6).toNatClampNeg) →
          ∃ (a10 n11 : Nat) (f12 : Nat → Int32), r_2 = some a10 ∧ jar H a10 0 (aI n11 f12) ∧ vp_in i_6 n11 ∧
          ∃ (a13 n14 : Nat) (f15 : Nat → Int32), r_2 = some a13 ∧ jar H a13 0 (aI n14 f15) ∧ vp_in i_4 n14 ∧
          (¬ (f12 (i_6).toNatClampNeg) = (f15 (i_4).toNatClampNeg) →
            jwp (jprog G) 171 Rt 149 [q_0, q_1, some (jR r_2), some (jR r_3), some (jI i_4), q_5, some (jI i_6), q_7] [] H) ∧
          (¬ ¬ (f12 (i_6).toNatClampNeg) = (f15 (i_4).toNatClampNeg) →
            ∃ (a16 n17 : Nat) (f18 : Nat → Int32), r_3 = some a16 ∧ jar H a16 0 (aI n17 f18) ∧ vp_in i_6 n17 ∧
            ∃ (a19 n20 : Nat) (f21 : Nat → Int32), r_3 = some a19 ∧ jar H a19 0 (aI n20 f21) ∧ vp_in i_4 n20 ∧
            ((f18 (i_6).toNatClampNeg) < (f21 (i_4).toNatClampNeg) →
              jwp (jprog G) 171 Rt 149 [q_0, q_1, some (jR r_2), some (jR r_3), some (jI i_4), q_5, some (jI i_6), q_7] [] H) ∧
            (¬ (f18 (i_6).toNatClampNeg) < (f21 (i_4).toNatClampNeg) →
              jwp (jprog G) 171 Rt 145 [q_0, q_1, some (jR r_2), some (jR r_3), some (jI i_4), q_5, some (jI i_6), q_7] [] H))))))) :
  jwp (jprog G) 171 Rt 92 [q_0, q_1, some (jR r_2), some (jR r_3), some (jI i_4), q_5, some (jI i_6), q_7] [] H :=
  junf_wp (jprog_nf G) (stop := jmem [28, 92, 145, 149]) (pX1_guessAgain G) 4000 _ _ _ _ h
/-- UnheardBells$Machine guessAgain(I)I @145 -/
theorem gX1_guessAgain_145 (G : JG) {Rt : JRt} (q_0 : Option JVal) (q_1 : Option JVal) (r_2 : Option Nat) (r_3 : Option Nat) (i_4 : Int32) (q_5 : Option JVal) (i_6 : Int32) (q_7 : Option JVal) {H : JHp} (h :
  ((1 : Int32) = 0 →
    jwp (jprog G) 171 Rt 92 [q_0, q_1, some (jR r_2), some (jR r_3), some (jI i_4), (jclr q_5), some (jI (i_6 + (-1))), some (jI 1)] [] H) ∧
  (¬ (1 : Int32) = 0 →
    jwp (jprog G) 171 Rt 92 [q_0, q_1, some (jR r_2), some (jR r_3), some (jI i_6), (jclr q_5), some (jI (i_6 + (-1))), some (jI 1)] [] H)) :
  jwp (jprog G) 171 Rt 145 [q_0, q_1, some (jR r_2), some (jR r_3), some (jI i_4), q_5, some (jI i_6), q_7] [] H :=
  junf_wp (jprog_nf G) (stop := jmem [28, 92, 145, 149]) (pX1_guessAgain G) 4000 _ _ _ _ h
/-- UnheardBells$Machine guessAgain(I)I @149 -/
theorem gX1_guessAgain_149 (G : JG) {Rt : JRt} (q_0 : Option JVal) (q_1 : Option JVal) (r_2 : Option Nat) (r_3 : Option Nat) (i_4 : Int32) (q_5 : Option JVal) (i_6 : Int32) (q_7 : Option JVal) {H : JHp} (h :
  ((0 : Int32) = 0 →
    jwp (jprog G) 171 Rt 92 [q_0, q_1, some (jR r_2), some (jR r_3), some (jI i_4), (jclr q_5), some (jI (i_6 + (-1))), some (jI 0)] [] H) ∧
  (¬ (0 : Int32) = 0 →
    jwp (jprog G) 171 Rt 92 [q_0, q_1, some (jR r_2), some (jR r_3), some (jI i_6), (jclr q_5), some (jI (i_6 + (-1))), some (jI 0)] [] H)) :
  jwp (jprog G) 171 Rt 149 [q_0, q_1, some (jR r_2), some (jR r_3), some (jI i_4), q_5, some (jI i_6), q_7] [] H :=
  junf_wp (jprog_nf G) (stop := jmem [28, 92, 145, 149]) (pX1_guessAgain G) 4000 _ _ _ _ h
/-- UnheardBells$Machine isBalanced([LUnheardBells$Count;)Z @0 -/
theorem gX1_isBalanced_0 (G : JG) {Rt : JRt} (this : Option Nat) (r_1 : Option Nat) {H : JHp} (h :
  ∃ (a1 : Nat) (fs2 : List JVal) (x3 : Int32), this = some a1 ∧ job H a1 1 fs2 ∧ jn fs2 6 = some (jI x3) ∧
  ∃ (a4 : Nat) (fs5 : List JVal), this = some a4 ∧ job H a4 1 fs5 ∧ /- X1_counted -/ ∃ (x7 : Int32) (H6 : JHp), jok (jprog G) 125 [jR this, jR r_1] H (.inl (some (jI x7))) H6 ∧
  (¬ x3 = x7 →
    jwp (jprog G) 172 Rt 31 [some (jR this), some (jR r_1), some (jI 0), some (jI 0)] [] H6) ∧
  (¬ ¬ x3 = x7 →
    ∃ (a8 : Nat) (fs9 : List JVal), this = some a8 ∧ job H6 a8 1 fs9 ∧ /- X1_forecast -/ ∃ (x11 : Int32) (H10 : JHp), jok (jprog G) 143 [jR this] H6 (.inl (some (jI x11))) H10 ∧
    ∃ (a12 : Nat) (fs13 : List JVal), this = some a12 ∧ job H10 a12 1 fs13 ∧ /- X1_forecastAgain -/ ∃ (x15 : Int32) (H14 : JHp), jok (jprog G) 163 [jR this] H10 (.inl (some (jI x15))) H14 ∧
    (¬ x11 = x15 →
      jwp (jprog G) 172 Rt 31 [some (jR this), some (jR r_1), some (jI 0), some (jI 0)] [] H14) ∧
    (¬ ¬ x11 = x15 →
      jwp (jprog G) 172 Rt 31 [some (jR this), some (jR r_1), some (jI 1), some (jI 0)] [] H14))) :
  jwp (jprog G) 172 Rt 0 [some (jR this), some (jR r_1), none, none] [] H :=
  junf_wp (jprog_nf G) (stop := jmem [31]) (pX1_isBalanced G) 4000 _ _ _ _ h
/-- UnheardBells$Machine isBalanced([LUnheardBells$Count;)Z @31 -/
theorem gX1_isBalanced_31 (G : JG) {Rt : JRt} (r_0 : Option Nat) (q_1 : Option JVal) (i_2 : Int32) (i_3 : Int32) {H : JHp} (h :
  ((24 : Int32) ≤ i_3 →
    jbool i_2 ∧ Rt (.inl (some (jI i_2))) H) ∧
  (¬ (24 : Int32) ≤ i_3 →
    ∃ (a1 : Nat) (fs2 : List JVal), r_0 = some a1 ∧ job H a1 1 fs2 ∧ /- X1_guess -/ ∃ (x4 : Int32) (H3 : JHp), jok (jprog G) 167 [jR r_0, jI i_3] H (.inl (some (jI x4))) H3 ∧
    ∃ (a5 : Nat) (fs6 : List JVal), r_0 = some a5 ∧ job H3 a5 1 fs6 ∧ /- X1_guessAgain -/ ∃ (x8 : Int32) (H7 : JHp), jok (jprog G) 171 [jR r_0, jI i_3] H3 (.inl (some (jI x8))) H7 ∧
    (¬ x4 = x8 →
      jwp (jprog G) 172 Rt 31 [some (jR r_0), (jclr q_1), some (jI (i_2 &&& (0 : Int32))), some (jI (i_3 + 1))] [] H7) ∧
    (¬ ¬ x4 = x8 →
      jwp (jprog G) 172 Rt 31 [some (jR r_0), (jclr q_1), some (jI (i_2 &&& (1 : Int32))), some (jI (i_3 + 1))] [] H7))) :
  jwp (jprog G) 172 Rt 31 [some (jR r_0), q_1, some (jI i_2), some (jI i_3)] [] H :=
  junf_wp (jprog_nf G) (stop := jmem [31]) (pX1_isBalanced G) 4000 _ _ _ _ h
/-- UnheardBells isBalanced()I @0 -/
theorem gX0_isBalanced_0 (G : JG) {Rt : JRt} (this : Option Nat) {H : JHp} (h :
  ∃ (a1 : Nat) (fs2 : List JVal) (r3 : Option Nat), this = some a1 ∧ job H a1 0 fs2 ∧ jn fs2 1 = some (jR r3) ∧
  ∃ (a4 : Nat) (fs5 : List JVal) (r6 : Option Nat), this = some a4 ∧ job H a4 0 fs5 ∧ jn fs5 0 = some (jR r6) ∧
  ∃ (a7 : Nat) (fs8 : List JVal), r3 = some a7 ∧ job H a7 1 fs8 ∧ /- X1_isBalanced -/ ∃ (x10 : Int32) (H9 : JHp), jok (jprog G) 172 [jR r3, jR r6] H (.inl (some (jI x10))) H9 ∧
  (x10 = 0 →
    Rt (.inl (some (jI 0))) H9) ∧
  (¬ x10 = 0 →
    Rt (.inl (some (jI 1))) H9)) :
  jwp (jprog G) 173 Rt 0 [some (jR this)] [] H :=
  junf_wp (jprog_nf G) (stop := jmem []) (pX0_isBalanced G) 4000 _ _ _ _ h
/-- UnheardBells account(I)I @0 -/
theorem gX0_account_0 (G : JG) {Rt : JRt} (this : Option Nat) (i_1 : Int32) {H : JHp} (h :
  (i_1 = 0 → ∃ (a1 : Nat) (fs2 : List JVal) (r3 : Option Nat), this = some a1 ∧ job H a1 0 fs2 ∧ jn fs2 1 = some (jR r3) ∧
    ∃ (a4 : Nat) (fs5 : List JVal) (r6 : Option Nat), r3 = some a4 ∧ job H a4 1 fs5 ∧ jn fs5 0 = some (jR r6) ∧
    ∃ (a7 : Nat) (fs8 : List JVal), r6 = some a7 ∧ job H a7 11 fs8 ∧ /- J2_size -/ ∃ (x10 : Int32) (H9 : JHp), jok (jprog G) 104 [jR r6] H (.inl (some (jI x10))) H9 ∧
    Rt (.inl (some (jI x10))) H9) ∧
  (¬ i_1 = 0 → (i_1 = 1 → ∃ (a11 : Nat) (fs12 : List JVal) (r13 : Option Nat), this = some a11 ∧ job H a11 0 fs12 ∧ jn fs12 1 = some (jR r13) ∧
    ∃ (a14 : Nat) (fs15 : List JVal) (r16 : Option Nat), r13 = some a14 ∧ job H a14 1 fs15 ∧ jn fs15 1 = some (jR r16) ∧
    ∃ (a17 : Nat) (fs18 : List JVal), r16 = some a17 ∧ job H a17 12 fs18 ∧ /- J4_size -/ ∃ (x20 : Int32) (H19 : JHp), jok (jprog G) 124 [jR r16] H (.inl (some (jI x20))) H19 ∧
    Rt (.inl (some (jI x20))) H19) ∧
  (¬ i_1 = 1 → (i_1 = 2 → ∃ (a21 : Nat) (fs22 : List JVal) (r23 : Option Nat), this = some a21 ∧ job H a21 0 fs22 ∧ jn fs22 1 = some (jR r23) ∧
    ∃ (a24 : Nat) (fs25 : List JVal) (x26 : Int32), r23 = some a24 ∧ job H a24 1 fs25 ∧ jn fs25 4 = some (jI x26) ∧
    Rt (.inl (some (jI x26))) H) ∧
  (¬ i_1 = 2 → (i_1 = 3 → ∃ (a27 : Nat) (fs28 : List JVal) (r29 : Option Nat), this = some a27 ∧ job H a27 0 fs28 ∧ jn fs28 1 = some (jR r29) ∧
    ∃ (a30 : Nat) (fs31 : List JVal) (x32 : Int32), r29 = some a30 ∧ job H a30 1 fs31 ∧ jn fs31 5 = some (jI x32) ∧
    Rt (.inl (some (jI x32))) H) ∧
  (¬ i_1 = 3 → (i_1 = 4 → ∃ (a33 : Nat) (fs34 : List JVal) (r35 : Option Nat), this = some a33 ∧ job H a33 0 fs34 ∧ jn fs34 1 = some (jR r35) ∧
    ∃ (a36 : Nat) (fs37 : List JVal) (x38 : Int32), r35 = some a36 ∧ job H a36 1 fs37 ∧ jn fs37 6 = some (jI x38) ∧
    Rt (.inl (some (jI x38))) H) ∧
  (¬ i_1 = 4 → (i_1 = 5 → ∃ (a39 : Nat) (fs40 : List JVal) (r41 : Option Nat), this = some a39 ∧ job H a39 0 fs40 ∧ jn fs40 1 = some (jR r41) ∧
    ∃ (a42 : Nat) (fs43 : List JVal) (r44 : Option Nat), this = some a42 ∧ job H a42 0 fs43 ∧ jn fs43 0 = some (jR r44) ∧
    ∃ (a45 n46 : Nat) (f47 : Nat → Option Nat), r44 = some a45 ∧ jar H a45 4 (aR n46 f47) ∧ vp_in (1 : Int32) n46 ∧
    ∃ (a48 : Nat) (fs49 : List JVal), r41 = some a48 ∧ job H a48 1 fs49 ∧ /- X1_all -/ ∃ (x51 : Int32) (H50 : JHp), jok (jprog G) 116 [jR r41, jR (f47 ((1 : Int32)).toNatClampNeg)] H (.inl (some (jI x51))) H50 ∧
    Rt (.inl (some (jI x51))) H50) ∧
  (¬ i_1 = 5 → (i_1 = 6 → ∃ (a52 : Nat) (fs53 : List JVal) (r54 : Option Nat), this = some a52 ∧ job H a52 0 fs53 ∧ jn fs53 1 = some (jR r54) ∧
    ∃ (a55 : Nat) (fs56 : List JVal) (r57 : Option Nat), this = some a55 ∧ job H a55 0 fs56 ∧ jn fs56 0 = some (jR r57) ∧
    ∃ (a58 n59 : Nat) (f60 : Nat → Option Nat), r57 = some a58 ∧ jar H a58 4 (aR n59 f60) ∧ vp_in (0 : Int32) n59 ∧
    ∃ (a61 : Nat) (fs62 : List JVal), r54 = some a61 ∧ job H a61 1 fs62 ∧ /- X1_all -/ ∃ (x64 : Int32) (H63 : JHp), jok (jprog G) 116 [jR r54, jR (f60 ((0 : Int32)).toNatClampNeg)] H (.inl (some (jI x64))) H63 ∧
    Rt (.inl (some (jI x64))) H63) ∧
  (¬ i_1 = 6 → (i_1 = 7 → ∃ (a65 : Nat) (fs66 : List JVal) (r67 : Option Nat), this = some a65 ∧ job H a65 0 fs66 ∧ jn fs66 1 = some (jR r67) ∧
    ∃ (a68 : Nat) (fs69 : List JVal) (r70 : Option Nat), this = some a68 ∧ job H a68 0 fs69 ∧ jn fs69 0 = some (jR r70) ∧
    ∃ (a71 n72 : Nat) (f73 : Nat → Option Nat), r70 = some a71 ∧ jar H a71 4 (aR n72 f73) ∧ vp_in (2 : Int32) n72 ∧
    ∃ (a74 : Nat) (fs75 : List JVal), r67 = some a74 ∧ job H a74 1 fs75 ∧ /- X1_all -/ ∃ (x77 : Int32) (H76 : JHp), jok (jprog G) 116 [jR r67, jR (f73 ((2 : Int32)).toNatClampNeg)] H (.inl (some (jI x77))) H76 ∧
    Rt (.inl (some (jI x77))) H76) ∧
  (¬ i_1 = 7 → (i_1 = 8 → ∃ (a78 : Nat) (fs79 : List JVal) (r80 : Option Nat), this = some a78 ∧ job H a78 0 fs79 ∧ jn fs79 1 = some (jR r80) ∧
    ∃ (a81 : Nat) (fs82 : List JVal) (x83 : Int32), r80 = some a81 ∧ job H a81 1 fs82 ∧ jn fs82 8 = some (jI x83) ∧
    Rt (.inl (some (jI x83))) H) ∧
  (¬ i_1 = 8 → (i_1 = 9 → ∃ (a84 : Nat) (fs85 : List JVal) (r86 : Option Nat), this = some a84 ∧ job H a84 0 fs85 ∧ jn fs85 1 = some (jR r86) ∧
    ∃ (a87 : Nat) (fs88 : List JVal), r86 = some a87 ∧ job H a87 1 fs88 ∧ /- X1_rust -/ ∃ (x90 : Int32) (H89 : JHp), jok (jprog G) 119 [jR r86] H (.inl (some (jI x90))) H89 ∧
    Rt (.inl (some (jI x90))) H89) ∧
  (¬ i_1 = 9 → (i_1 = 10 → ∃ (a91 : Nat) (fs92 : List JVal) (r93 : Option Nat), this = some a91 ∧ job H a91 0 fs92 ∧ jn fs92 1 = some (jR r93) ∧
    ∃ (a94 : Nat) (fs95 : List JVal) (r96 : Option Nat), r93 = some a94 ∧ job H a94 1 fs95 ∧ jn fs95 3 = some (jR r96) ∧
    ∃ (a97 : Nat) (fs98 : List JVal), r96 = some a97 ∧ job H a97 14 fs98 ∧ /- J7_size -/ ∃ (x100 : Int32) (H99 : JHp), jok (jprog G) 92 [jR r96] H (.inl (some (jI x100))) H99 ∧
    Rt (.inl (some (jI x100))) H99) ∧
  (¬ i_1 = 10 → (i_1 = 11 → ∃ (a101 : Nat) (fs102 : List JVal) (r103 : Option Nat), this = some a101 ∧ job H a101 0 fs102 ∧ jn fs102 6 = some (jR r103) ∧
    ∃ (a104 : Nat) (fs105 : List JVal), r103 = some a104 ∧ job H a104 15 fs105 ∧ /- J9_length -/ ∃ (x107 : Int32) (H106 : JHp), jok (jprog G) 176 [jR r103] H (.inl (some (jI x107))) H106 ∧
    Rt (.inl (some (jI x107))) H106) ∧
  (¬ i_1 = 11 → (i_1 = 12 → ∃ (a108 : Nat) (fs109 : List JVal) (r110 : Option Nat), this = some a108 ∧ job H a108 0 fs109 ∧ jn fs109 3 = some (jR r110) ∧
    ∃ (a111 : Nat) (fs112 : List JVal), r110 = some a111 ∧ job H a111 14 fs112 ∧ /- J7_size -/ ∃ (x114 : Int32) (H113 : JHp), jok (jprog G) 92 [jR r110] H (.inl (some (jI x114))) H113 ∧
    Rt (.inl (some (jI x114))) H113) ∧
  (¬ i_1 = 12 → Rt (.inl (some (jI (-1012)))) H)))))))))))))) :
  jwp (jprog G) 177 Rt 0 [some (jR this), some (jI i_1)] [] H :=
  junf_wp (jprog_nf G) (stop := jmem []) (pX0_account G) 4000 _ _ _ _ h
/-- UnheardBells reason(Z)I @0 -/
theorem gX0_reason_0 (G : JG) {Rt : JRt} (this : Option Nat) (i_1 : Int32) {H : JHp} (h :
  ∃ (a1 : Nat) (fs2 : List JVal) (x3 : Int32), this = some a1 ∧ job H a1 0 fs2 ∧ jn fs2 4 = some (jI x3) ∧
  (¬ x3 = 0 →
    (i_1 = 0 →
      ∃ (a4 : Nat) (fs5 : List JVal) (x6 : Int32), this = some a4 ∧ job H a4 0 fs5 ∧ jn fs5 4 = some (jI x6) ∧
      Rt (.inl (some (jI x6))) H) ∧
    (¬ i_1 = 0 →
      ∃ (a7 : Nat) (fs8 : List JVal) (x9 : Int32), this = some a7 ∧ job H a7 0 fs8 ∧ jn fs8 5 = some (jI x9) ∧
      Rt (.inl (some (jI x9))) H)) ∧
  (¬ ¬ x3 = 0 →
    Rt (.inl (some (jI (-1015)))) H)) :
  jwp (jprog G) 180 Rt 0 [some (jR this), some (jI i_1)] [] H :=
  junf_wp (jprog_nf G) (stop := jmem []) (pX0_reason G) 4000 _ _ _ _ h
/-- UnheardBells isIn(III)Z @0 -/
theorem gX0_isIn_0 (G : JG) {Rt : JRt} (i_0 : Int32) (i_1 : Int32) (i_2 : Int32) {H : JHp} (h :
  (i_0 < i_1 →
    jbool (0 : Int32) ∧ Rt (.inl (some (jI 0))) H) ∧
  (¬ i_0 < i_1 →
    (i_2 < i_0 →
      jbool (0 : Int32) ∧ Rt (.inl (some (jI 0))) H) ∧
    (¬ i_2 < i_0 →
      jbool (1 : Int32) ∧ Rt (.inl (some (jI 1))) H))) :
  jwp (jprog G) 184 Rt 0 [some (jI i_0), some (jI i_1), some (jI i_2)] [] H :=
  junf_wp (jprog_nf G) (stop := jmem []) (pX0_isIn G) 4000 _ _ _ _ h
/-- UnheardBells character(I)I @0 -/
theorem gX0_character_0 (G : JG) {Rt : JRt} (this : Option Nat) (i_1 : Int32) {H : JHp} (h :
  ∃ (a1 : Nat) (fs2 : List JVal) (r3 : Option Nat), this = some a1 ∧ job H a1 0 fs2 ∧ jn fs2 7 = some (jR r3) ∧
  ∃ (a4 : Nat) (fs5 : List JVal), r3 = some a4 ∧ job H a4 16 fs5 ∧ /- J10_length -/ ∃ (x7 : Int32) (H6 : JHp), jok (jprog G) 183 [jR r3] H (.inl (some (jI x7))) H6 ∧
  /- X0_isIn -/ ∃ (x9 : Int32) (H8 : JHp), jok (jprog G) 184 [jI i_1, jI 0, jI (x7 - (1 : Int32))] H6 (.inl (some (jI x9))) H8 ∧
  (x9 = 0 →
    Rt (.inl (some (jI (-1011)))) H8) ∧
  (¬ x9 = 0 →
    ∃ (a10 : Nat) (fs11 : List JVal) (r12 : Option Nat), this = some a10 ∧ job H8 a10 0 fs11 ∧ jn fs11 7 = some (jR r12) ∧
    ∃ (a13 : Nat) (fs14 : List JVal), r12 = some a13 ∧ job H8 a13 16 fs14 ∧ /- J10_charAt -/ ∃ (x16 : Int32) (H15 : JHp), jok (jprog G) 188 [jR r12, jI i_1] H8 (.inl (some (jI x16))) H15 ∧
    Rt (.inl (some (jI x16))) H15)) :
  jwp (jprog G) 189 Rt 0 [some (jR this), some (jI i_1)] [] H :=
  junf_wp (jprog_nf G) (stop := jmem []) (pX0_character G) 4000 _ _ _ _ h
/-- UnheardBells$Machine dayText()Ljava/lang/String; @0 -/
theorem gX1_dayText_0 (G : JG) {Rt : JRt} (this : Option Nat) {H : JHp} (h :
  ∃ a1 : Nat, (some H.2.1) = some a1 ∧ /- J9_init -/ ∃ H2 : JHp, jok (jprog G) 14 [jR (some H.2.1)] (jnew H (jO 15 [jR none, jI 0, jI 0, jI 0]) 4) (.inl none) H2 ∧
  ∃ (a3 : Nat) (fs4 : List JVal) (r5 : Option Nat), this = some a3 ∧ job H2 a3 1 fs4 ∧ jn fs4 2 = some (jR r5) ∧
  ∃ (a6 : Nat) (fs7 : List JVal), r5 = some a6 ∧ job H2 a6 13 fs7 ∧ /- J6_keySet -/ ∃ (r9 : Option Nat) (H8 : JHp), jok (jprog G) 51 [jR r5] H2 (.inl (some (jR r9))) H8 ∧
  ∃ (a10 : Nat) (fs11 : List JVal), r9 = some a10 ∧ job H8 a10 22 fs11 ∧ /- J29_iterator -/ ∃ (r13 : Option Nat) (H12 : JHp), jok (jprog G) 56 [jR r9] H8 (.inl (some (jR r13))) H12 ∧
  jwp (jprog G) 213 Rt 21 [some (jR this), some (jR (some H.2.1)), some (jR r13), none] [] H12) :
  jwp (jprog G) 213 Rt 0 [some (jR this), none, none, none] [] H :=
  junf_wp (jprog_nf G) (stop := jmem [21]) (pX1_dayText G) 4000 _ _ _ _ h
/-- UnheardBells$Machine dayText()Ljava/lang/String; @21 -/
theorem gX1_dayText_21 (G : JG) {Rt : JRt} (r_0 : Option Nat) (r_1 : Option Nat) (r_2 : Option Nat) (q_3 : Option JVal) {H : JHp} (h :
  ∃ (a1 : Nat) (fs2 : List JVal), r_2 = some a1 ∧ job H a1 23 fs2 ∧ /- J30_hasNext__J31 -/ ∃ (x4 : Int32) (H3 : JHp), jok (jprog G) 57 [jR r_2] H (.inl (some (jI x4))) H3 ∧
  (x4 = 0 →
    ∃ (a5 : Nat) (fs6 : List JVal), r_1 = some a5 ∧ job H3 a5 15 fs6 ∧ /- J9_toString -/ ∃ (r8 : Option Nat) (H7 : JHp), jok (jprog G) 212 [jR r_1] H3 (.inl (some (jR r8))) H7 ∧
    Rt (.inl (some (jR r8))) H7) ∧
  (¬ x4 = 0 →
    ∃ (a9 : Nat) (fs10 : List JVal), r_2 = some a9 ∧ job H3 a9 23 fs10 ∧ /- J31_next -/ ∃ (r12 : Option Nat) (H11 : JHp), jok (jprog G) 60 [jR r_2] H3 (.inl (some (jR r12))) H11 ∧
    (∀ a, r12 = some a → ∃ fs, job H11 a 21 fs) ∧
    ∃ (a13 : Nat) (fs14 : List JVal), r12 = some a13 ∧ job H11 a13 21 fs14 ∧ /- J25_intValue -/ ∃ (x16 : Int32) (H15 : JHp), jok (jprog G) 61 [jR r12] H11 (.inl (some (jI x16))) H15 ∧
    ∃ (a17 : Nat) (fs18 : List JVal), r_1 = some a17 ∧ job H15 a17 15 fs18 ∧ /- J9_length -/ ∃ (x20 : Int32) (H19 : JHp), jok (jprog G) 176 [jR r_1] H15 (.inl (some (jI x20))) H19 ∧
    (¬ x20 = 0 →
      ∃ (a21 : Nat) (fs22 : List JVal), r_1 = some a21 ∧ job H19 a21 15 fs22 ∧ /- J9_append -/ ∃ (r24 : Option Nat) (H23 : JHp), jok (jprog G) 198 [jR r_1, jR (some (G.1 5))] H19 (.inl (some (jR r24))) H23 ∧
      ∃ (a25 : Nat) (fs26 : List JVal), r24 = some a25 ∧ job H23 a25 15 fs26 ∧ /- J9_append_3 -/ ∃ (r28 : Option Nat) (H27 : JHp), jok (jprog G) 203 [jR r24, jI x16] H23 (.inl (some (jR r28))) H27 ∧
      ∃ (a29 : Nat) (fs30 : List JVal), r28 = some a29 ∧ job H27 a29 15 fs30 ∧ /- J9_append_2 -/ ∃ (r32 : Option Nat) (H31 : JHp), jok (jprog G) 206 [jR r28, jI 61] H27 (.inl (some (jR r32))) H31 ∧
      ∃ (a33 : Nat) (fs34 : List JVal), r_0 = some a33 ∧ job H31 a33 1 fs34 ∧ /- X1_guess -/ ∃ (x36 : Int32) (H35 : JHp), jok (jprog G) 167 [jR r_0, jI x16] H31 (.inl (some (jI x36))) H35 ∧
      ∃ (a37 : Nat) (fs38 : List JVal), r32 = some a37 ∧ job H35 a37 15 fs38 ∧ /- J9_append_3 -/ ∃ (r40 : Option Nat) (H39 : JHp), jok (jprog G) 203 [jR r32, jI x36] H35 (.inl (some (jR r40))) H39 ∧
      jwp (jprog G) 213 Rt 21 [some (jR r_0), some (jR r_1), some (jR r_2), some (jI x16)] [] H39) ∧
    (¬ ¬ x20 = 0 →
      ∃ (a41 : Nat) (fs42 : List JVal), r_1 = some a41 ∧ job H19 a41 15 fs42 ∧ /- J9_append -/ ∃ (r44 : Option Nat) (H43 : JHp), jok (jprog G) 198 [jR r_1, jR (some (G.1 3))] H19 (.inl (some (jR r44))) H43 ∧
      ∃ (a45 : Nat) (fs46 : List JVal), r44 = some a45 ∧ job H43 a45 15 fs46 ∧ /- J9_append_3 -/ ∃ (r48 : Option Nat) (H47 : JHp), jok (jprog G) 203 [jR r44, jI x16] H43 (.inl (some (jR r48))) H47 ∧
      ∃ (a49 : Nat) (fs50 : List JVal), r48 = some a49 ∧ job H47 a49 15 fs50 ∧ /- J9_append_2 -/ ∃ (r52 : Option Nat) (H51 : JHp), jok (jprog G) 206 [jR r48, jI 61] H47 (.inl (some (jR r52))) H51 ∧
      ∃ (a53 : Nat) (fs54 : List JVal), r_0 = some a53 ∧ job H51 a53 1 fs54 ∧ /- X1_guess -/ ∃ (x56 : Int32) (H55 : JHp), jok (jprog G) 167 [jR r_0, jI x16] H51 (.inl (some (jI x56))) H55 ∧
      ∃ (a57 : Nat) (fs58 : List JVal), r52 = some a57 ∧ job H55 a57 15 fs58 ∧ /- J9_append_3 -/ ∃ (r60 : Option Nat) (H59 : JHp), jok (jprog G) 203 [jR r52, jI x56] H55 (.inl (some (jR r60))) H59 ∧
      jwp (jprog G) 213 Rt 21 [some (jR r_0), some (jR r_1), some (jR r_2), some (jI x16)] [] H59))) :
  jwp (jprog G) 213 Rt 21 [some (jR r_0), some (jR r_1), some (jR r_2), q_3] [] H :=
  junf_wp (jprog_nf G) (stop := jmem [21]) (pX1_dayText G) 4000 _ _ _ _ h
/-- UnheardBells tellDay()I @0 -/
theorem gX0_tellDay_0 (G : JG) {Rt : JRt} (this : Option Nat) {H : JHp} (h :
  ∃ (a1 : Nat) (fs2 : List JVal) (r3 : Option Nat), this = some a1 ∧ job H a1 0 fs2 ∧ jn fs2 1 = some (jR r3) ∧
  ∃ (a4 : Nat) (fs5 : List JVal), r3 = some a4 ∧ job H a4 1 fs5 ∧ /- X1_dayText -/ ∃ (r7 : Option Nat) (H6 : JHp), jok (jprog G) 213 [jR r3] H (.inl (some (jR r7))) H6 ∧
  ∃ (a8 : Nat) (fs9 : List JVal) (v10 : JVal), this = some a8 ∧ H6.1 a8 = some (true, jO 0 fs9) ∧ jn fs9 7 = some v10 ∧
  ∃ (a11 : Nat) (fs12 : List JVal) (r13 : Option Nat), this = some a11 ∧ job (jup H6 a8 (jO 0 (jset fs9 7 (jR r7)))) a11 0 fs12 ∧ jn fs12 7 = some (jR r13) ∧
  ∃ (a14 : Nat) (fs15 : List JVal), r13 = some a14 ∧ job (jup H6 a8 (jO 0 (jset fs9 7 (jR r7)))) a14 16 fs15 ∧ /- J10_length -/ ∃ (x17 : Int32) (H16 : JHp), jok (jprog G) 183 [jR r13] (jup H6 a8 (jO 0 (jset fs9 7 (jR r7)))) (.inl (some (jI x17))) H16 ∧
  Rt (.inl (some (jI x17))) H16) :
  jwp (jprog G) 214 Rt 0 [some (jR this)] [] H :=
  junf_wp (jprog_nf G) (stop := jmem []) (pX0_tellDay G) 4000 _ _ _ _ h
/-- UnheardBells$Machine isRope(I)Z @0 -/
theorem gX1_isRope_0 (G : JG) {Rt : JRt} (this : Option Nat) (i_1 : Int32) {H : JHp} (h :
  ∃ (a1 : Nat) (fs2 : List JVal) (r3 : Option Nat), this = some a1 ∧ job H a1 1 fs2 ∧ jn fs2 0 = some (jR r3) ∧
  ∃ (a4 : Nat) (fs5 : List JVal), r3 = some a4 ∧ job H a4 11 fs5 ∧ /- J2_size -/ ∃ (x7 : Int32) (H6 : JHp), jok (jprog G) 104 [jR r3] H (.inl (some (jI x7))) H6 ∧
  /- X0_isIn -/ ∃ (x9 : Int32) (H8 : JHp), jok (jprog G) 184 [jI i_1, jI 0, jI (x7 - (1 : Int32))] H6 (.inl (some (jI x9))) H8 ∧
  jbool x9 ∧ Rt (.inl (some (jI x9))) H8) :
  jwp (jprog G) 220 Rt 0 [some (jR this), some (jI i_1)] [] H :=
  junf_wp (jprog_nf G) (stop := jmem []) (pX1_isRope G) 4000 _ _ _ _ h
/-- UnheardBells$Machine text(I)Ljava/lang/String; @0 -/
theorem gX1_text_0 (G : JG) {Rt : JRt} (this : Option Nat) (i_1 : Int32) {H : JHp} (h :
  ∃ (a1 : Nat) (fs2 : List JVal) (r3 : Option Nat), this = some a1 ∧ job H a1 1 fs2 ∧ jn fs2 0 = some (jR r3) ∧
  ∃ (a4 : Nat) (fs5 : List JVal), r3 = some a4 ∧ job H a4 11 fs5 ∧ /- J2_get -/ ∃ (r7 : Option Nat) (H6 : JHp), jok (jprog G) 132 [jR r3, jI i_1] H (.inl (some (jR r7))) H6 ∧
  (∀ a, r7 = some a → ∃ fs, job H6 a 4 fs) ∧
  ∃ a8 : Nat, (some H6.2.1) = some a8 ∧ /- J9_init -/ ∃ H9 : JHp, jok (jprog G) 14 [jR (some H6.2.1)] (jnew H6 (jO 15 [jR none, jI 0, jI 0, jI 0]) 4) (.inl none) H9 ∧
  ∃ (a10 : Nat) (fs11 : List JVal), (some H6.2.1) = some a10 ∧ job H9 a10 15 fs11 ∧ /- J9_append_3 -/ ∃ (r13 : Option Nat) (H12 : JHp), jok (jprog G) 203 [jR (some H6.2.1), jI i_1] H9 (.inl (some (jR r13))) H12 ∧
  ∃ (a14 : Nat) (fs15 : List JVal), r13 = some a14 ∧ job H12 a14 15 fs15 ∧ /- J9_append_2 -/ ∃ (r17 : Option Nat) (H16 : JHp), jok (jprog G) 206 [jR r13, jI 58] H12 (.inl (some (jR r17))) H16 ∧
  ∃ (a18 : Nat) (fs19 : List JVal) (x20 : Int32), r7 = some a18 ∧ job H16 a18 4 fs19 ∧ jn fs19 0 = some (jI x20) ∧
  ∃ (a21 : Nat) (fs22 : List JVal), r17 = some a21 ∧ job H16 a21 15 fs22 ∧ /- J9_append_3 -/ ∃ (r24 : Option Nat) (H23 : JHp), jok (jprog G) 203 [jR r17, jI x20] H16 (.inl (some (jR r24))) H23 ∧
  ∃ (a25 : Nat) (fs26 : List JVal) (x27 : Int32), r7 = some a25 ∧ job H23 a25 4 fs26 ∧ jn fs26 1 = some (jI x27) ∧
  (x27 = 0 →
    ∃ (a28 : Nat) (fs29 : List JVal), r24 = some a28 ∧ job H23 a28 15 fs29 ∧ /- J9_append -/ ∃ (r31 : Option Nat) (H30 : JHp), jok (jprog G) 198 [jR r24, jR (some (G.1 4))] H23 (.inl (some (jR r31))) H30 ∧
    jwp (jprog G) 221 Rt 60 [some (jR this), some (jI i_1), some (jR r7), some (jR (some H6.2.1)), some (jI 0), none] [] H30) ∧
  (¬ x27 = 0 →
    ∃ (a32 : Nat) (fs33 : List JVal), r24 = some a32 ∧ job H23 a32 15 fs33 ∧ /- J9_append -/ ∃ (r35 : Option Nat) (H34 : JHp), jok (jprog G) 198 [jR r24, jR (some (G.1 3))] H23 (.inl (some (jR r35))) H34 ∧
    jwp (jprog G) 221 Rt 60 [some (jR this), some (jI i_1), some (jR r7), some (jR (some H6.2.1)), some (jI 0), none] [] H34)) :
  jwp (jprog G) 221 Rt 0 [some (jR this), some (jI i_1), none, none, none, none] [] H :=
  junf_wp (jprog_nf G) (stop := jmem [60, 91]) (pX1_text G) 4000 _ _ _ _ h
/-- UnheardBells$Machine text(I)Ljava/lang/String; @60 -/
theorem gX1_text_60 (G : JG) {Rt : JRt} (r_0 : Option Nat) (i_1 : Int32) (r_2 : Option Nat) (r_3 : Option Nat) (i_4 : Int32) (q_5 : Option JVal) {H : JHp} (h :
  ∃ (a1 : Nat) (fs2 : List JVal) (x3 : Int32), r_2 = some a1 ∧ job H a1 4 fs2 ∧ jn fs2 2 = some (jI x3) ∧
  (x3 ≤ i_4 →
    ∃ (a4 : Nat) (fs5 : List JVal), r_0 = some a4 ∧ job H a4 1 fs5 ∧ /- X1_inOrder -/ ∃ (r7 : Option Nat) (H6 : JHp), jok (jprog G) 151 [jR r_0] H (.inl (some (jR r7))) H6 ∧
    ∃ (a8 : Nat) (fs9 : List JVal), r7 = some a8 ∧ job H6 a8 27 fs9 ∧ /- J35_iterator__J36 -/ ∃ (r11 : Option Nat) (H10 : JHp), jok (jprog G) 158 [jR r7] H6 (.inl (some (jR r11))) H10 ∧
    jwp (jprog G) 221 Rt 91 [some (jR r_0), some (jI i_1), some (jR r_2), some (jR r_3), some (jR r11), q_5] [] H10) ∧
  (¬ x3 ≤ i_4 →
    ∃ (a12 : Nat) (fs13 : List JVal), r_3 = some a12 ∧ job H a12 15 fs13 ∧ /- J9_append_2 -/ ∃ (r15 : Option Nat) (H14 : JHp), jok (jprog G) 206 [jR r_3, jI 126] H (.inl (some (jR r15))) H14 ∧
    jwp (jprog G) 221 Rt 60 [some (jR r_0), some (jI i_1), some (jR r_2), some (jR r_3), some (jI (i_4 + 1)), q_5] [] H14)) :
  jwp (jprog G) 221 Rt 60 [some (jR r_0), some (jI i_1), some (jR r_2), some (jR r_3), some (jI i_4), q_5] [] H :=
  junf_wp (jprog_nf G) (stop := jmem [60, 91]) (pX1_text G) 4000 _ _ _ _ h
/-- UnheardBells$Machine text(I)Ljava/lang/String; @91 -/
theorem gX1_text_91 (G : JG) {Rt : JRt} (q_0 : Option JVal) (i_1 : Int32) (q_2 : Option JVal) (r_3 : Option Nat) (r_4 : Option Nat) (q_5 : Option JVal) {H : JHp} (h :
  ∃ (a1 : Nat) (fs2 : List JVal), r_4 = some a1 ∧ job H a1 31 fs2 ∧ /- J41_hasNext -/ ∃ (x4 : Int32) (H3 : JHp), jok (jprog G) 159 [jR r_4] H (.inl (some (jI x4))) H3 ∧
  (x4 = 0 →
    ∃ (a5 : Nat) (fs6 : List JVal), r_3 = some a5 ∧ job H3 a5 15 fs6 ∧ /- J9_toString -/ ∃ (r8 : Option Nat) (H7 : JHp), jok (jprog G) 212 [jR r_3] H3 (.inl (some (jR r8))) H7 ∧
    Rt (.inl (some (jR r8))) H7) ∧
  (¬ x4 = 0 →
    ∃ (a9 : Nat) (fs10 : List JVal), r_4 = some a9 ∧ job H3 a9 31 fs10 ∧ /- J41_next -/ ∃ (r12 : Option Nat) (H11 : JHp), jok (jprog G) 161 [jR r_4] H3 (.inl (some (jR r12))) H11 ∧
    (∀ a, r12 = some a → ∃ fs, job H11 a 6 fs) ∧
    ∃ (a13 : Nat) (fs14 : List JVal) (x15 : Int32), r12 = some a13 ∧ job H11 a13 6 fs14 ∧ jn fs14 0 = some (jI x15) ∧
    (¬ x15 = i_1 →
      jwp (jprog G) 221 Rt 91 [q_0, some (jI i_1), q_2, some (jR r_3), some (jR r_4), some (jR r12)] [] H11) ∧
    (¬ ¬ x15 = i_1 →
      ∃ (a16 : Nat) (fs17 : List JVal), r_3 = some a16 ∧ job H11 a16 15 fs17 ∧ /- J9_append_2 -/ ∃ (r19 : Option Nat) (H18 : JHp), jok (jprog G) 206 [jR r_3, jI 64] H11 (.inl (some (jR r19))) H18 ∧
      ∃ (a20 : Nat) (fs21 : List JVal) (x22 : Int32), r12 = some a20 ∧ job H18 a20 6 fs21 ∧ jn fs21 1 = some (jI x22) ∧
      ∃ (a23 : Nat) (fs24 : List JVal), r19 = some a23 ∧ job H18 a23 15 fs24 ∧ /- J9_append_3 -/ ∃ (r26 : Option Nat) (H25 : JHp), jok (jprog G) 203 [jR r19, jI x22] H18 (.inl (some (jR r26))) H25 ∧
      ∃ (a27 : Nat) (fs28 : List JVal), r26 = some a27 ∧ job H25 a27 15 fs28 ∧ /- J9_append_2 -/ ∃ (r30 : Option Nat) (H29 : JHp), jok (jprog G) 206 [jR r26, jI 42] H25 (.inl (some (jR r30))) H29 ∧
      ∃ (a31 : Nat) (fs32 : List JVal) (x33 : Int32), r12 = some a31 ∧ job H29 a31 6 fs32 ∧ jn fs32 2 = some (jI x33) ∧
      ∃ (a34 : Nat) (fs35 : List JVal), r30 = some a34 ∧ job H29 a34 15 fs35 ∧ /- J9_append_3 -/ ∃ (r37 : Option Nat) (H36 : JHp), jok (jprog G) 203 [jR r30, jI x33] H29 (.inl (some (jR r37))) H36 ∧
      jwp (jprog G) 221 Rt 91 [q_0, some (jI i_1), q_2, some (jR r_3), some (jR r_4), some (jR r12)] [] H36))) :
  jwp (jprog G) 221 Rt 91 [q_0, some (jI i_1), q_2, some (jR r_3), some (jR r_4), q_5] [] H :=
  junf_wp (jprog_nf G) (stop := jmem [60, 91]) (pX1_text G) 4000 _ _ _ _ h
/-- UnheardBells tell(I)I @0 -/
theorem gX0_tell_0 (G : JG) {Rt : JRt} (this : Option Nat) (i_1 : Int32) {H : JHp} (h :
  ∃ (a1 : Nat) (fs2 : List JVal) (r3 : Option Nat), this = some a1 ∧ job H a1 0 fs2 ∧ jn fs2 1 = some (jR r3) ∧
  ∃ (a4 : Nat) (fs5 : List JVal), r3 = some a4 ∧ job H a4 1 fs5 ∧ /- X1_isRope -/ ∃ (x7 : Int32) (H6 : JHp), jok (jprog G) 220 [jR r3, jI i_1] H (.inl (some (jI x7))) H6 ∧
  (¬ x7 = 0 →
    ∃ (a8 : Nat) (fs9 : List JVal) (r10 : Option Nat), this = some a8 ∧ job H6 a8 0 fs9 ∧ jn fs9 1 = some (jR r10) ∧
    ∃ (a11 : Nat) (fs12 : List JVal), r10 = some a11 ∧ job H6 a11 1 fs12 ∧ /- X1_text -/ ∃ (r14 : Option Nat) (H13 : JHp), jok (jprog G) 221 [jR r10, jI i_1] H6 (.inl (some (jR r14))) H13 ∧
    ∃ (a15 : Nat) (fs16 : List JVal) (v17 : JVal), this = some a15 ∧ H13.1 a15 = some (true, jO 0 fs16) ∧ jn fs16 7 = some v17 ∧
    ∃ (a18 : Nat) (fs19 : List JVal) (r20 : Option Nat), this = some a18 ∧ job (jup H13 a15 (jO 0 (jset fs16 7 (jR r14)))) a18 0 fs19 ∧ jn fs19 7 = some (jR r20) ∧
    ∃ (a21 : Nat) (fs22 : List JVal), r20 = some a21 ∧ job (jup H13 a15 (jO 0 (jset fs16 7 (jR r14)))) a21 16 fs22 ∧ /- J10_length -/ ∃ (x24 : Int32) (H23 : JHp), jok (jprog G) 183 [jR r20] (jup H13 a15 (jO 0 (jset fs16 7 (jR r14)))) (.inl (some (jI x24))) H23 ∧
    Rt (.inl (some (jI x24))) H23) ∧
  (¬ ¬ x7 = 0 →
    Rt (.inl (some (jI (-1011)))) H6)) :
  jwp (jprog G) 222 Rt 0 [some (jR this), some (jI i_1)] [] H :=
  junf_wp (jprog_nf G) (stop := jmem []) (pX0_tell G) 4000 _ _ _ _ h
/-- UnheardBells$Reader <init>(LUnheardBells;)V @0 -/
theorem gX8_init_0 (G : JG) {Rt : JRt} (this : Option Nat) (r_1 : Option Nat) {H : JHp} (h :
  ∃ (a1 : Nat) (fs2 : List JVal) (v3 : JVal), this = some a1 ∧ H.1 a1 = some (true, jO 8 fs2) ∧ jn fs2 1 = some v3 ∧
  ∃ a4 : Nat, this = some a4 ∧
  Rt (.inl none) (jup H a1 (jO 8 (jset fs2 1 (jR r_1))))) :
  jwp (jprog G) 226 Rt 0 [some (jR this), some (jR r_1)] [] H :=
  junf_wp (jprog_nf G) (stop := jmem []) (pX8_init G) 4000 _ _ _ _ h
/-- UnheardBells$Reader here()I @0 -/
theorem gX8_here_0 (G : JG) {Rt : JRt} (this : Option Nat) {H : JHp} (h :
  ∃ (a1 : Nat) (fs2 : List JVal) (x3 : Int32), this = some a1 ∧ job H a1 8 fs2 ∧ jn fs2 0 = some (jI x3) ∧
  ∃ (a4 : Nat) (fs5 : List JVal) (r6 : Option Nat), this = some a4 ∧ job H a4 8 fs5 ∧ jn fs5 1 = some (jR r6) ∧
  ∃ (a7 : Nat) (fs8 : List JVal) (r9 : Option Nat), r6 = some a7 ∧ job H a7 0 fs8 ∧ jn fs8 6 = some (jR r9) ∧
  ∃ (a10 : Nat) (fs11 : List JVal), r9 = some a10 ∧ job H a10 15 fs11 ∧ /- J9_length -/ ∃ (x13 : Int32) (H12 : JHp), jok (jprog G) 176 [jR r9] H (.inl (some (jI x13))) H12 ∧
  (x13 ≤ x3 →
    Rt (.inl (some (jI (-1011)))) H12) ∧
  (¬ x13 ≤ x3 →
    ∃ (a14 : Nat) (fs15 : List JVal) (r16 : Option Nat), this = some a14 ∧ job H12 a14 8 fs15 ∧ jn fs15 1 = some (jR r16) ∧
    ∃ (a17 : Nat) (fs18 : List JVal) (r19 : Option Nat), r16 = some a17 ∧ job H12 a17 0 fs18 ∧ jn fs18 6 = some (jR r19) ∧
    ∃ (a20 : Nat) (fs21 : List JVal) (x22 : Int32), this = some a20 ∧ job H12 a20 8 fs21 ∧ jn fs21 0 = some (jI x22) ∧
    ∃ (a23 : Nat) (fs24 : List JVal), r19 = some a23 ∧ job H12 a23 15 fs24 ∧ /- J9_charAt -/ ∃ (x26 : Int32) (H25 : JHp), jok (jprog G) 228 [jR r19, jI x22] H12 (.inl (some (jI x26))) H25 ∧
    Rt (.inl (some (jI x26))) H25)) :
  jwp (jprog G) 229 Rt 0 [some (jR this)] [] H :=
  junf_wp (jprog_nf G) (stop := jmem []) (pX8_here G) 4000 _ _ _ _ h
/-- UnheardBells$Reader isKind(I)Z @0 -/
theorem gX8_isKind_0 (G : JG) {Rt : JRt} (this : Option Nat) (i_1 : Int32) {H : JHp} (h :
  (i_1 = 99 → jbool (1 : Int32) ∧ Rt (.inl (some (jI 1))) H) ∧
  (¬ i_1 = 99 → (i_1 = 100 → jbool (0 : Int32) ∧ Rt (.inl (some (jI 0))) H) ∧
  (¬ i_1 = 100 → (i_1 = 101 → jbool (1 : Int32) ∧ Rt (.inl (some (jI 1))) H) ∧
  (¬ i_1 = 101 → (i_1 = 102 → jbool (0 : Int32) ∧ Rt (.inl (some (jI 0))) H) ∧
  (¬ i_1 = 102 → (i_1 = 103 → jbool (0 : Int32) ∧ Rt (.inl (some (jI 0))) H) ∧
  (¬ i_1 = 103 → (i_1 = 104 → jbool (1 : Int32) ∧ Rt (.inl (some (jI 1))) H) ∧
  (¬ i_1 = 104 → (i_1 = 105 → jbool (0 : Int32) ∧ Rt (.inl (some (jI 0))) H) ∧
  (¬ i_1 = 105 → (i_1 = 106 → jbool (0 : Int32) ∧ Rt (.inl (some (jI 0))) H) ∧
  (¬ i_1 = 106 → (i_1 = 107 → jbool (0 : Int32) ∧ Rt (.inl (some (jI 0))) H) ∧
  (¬ i_1 = 107 → (i_1 = 108 → jbool (0 : Int32) ∧ Rt (.inl (some (jI 0))) H) ∧
  (¬ i_1 = 108 → (i_1 = 109 → jbool (0 : Int32) ∧ Rt (.inl (some (jI 0))) H) ∧
  (¬ i_1 = 109 → (i_1 = 110 → jbool (1 : Int32) ∧ Rt (.inl (some (jI 1))) H) ∧
  (¬ i_1 = 110 → (i_1 = 111 → jbool (1 : Int32) ∧ Rt (.inl (some (jI 1))) H) ∧
  (¬ i_1 = 111 → (i_1 = 112 → jbool (1 : Int32) ∧ Rt (.inl (some (jI 1))) H) ∧
  (¬ i_1 = 112 → (i_1 = 113 → jbool (0 : Int32) ∧ Rt (.inl (some (jI 0))) H) ∧
  (¬ i_1 = 113 → (i_1 = 114 → jbool (1 : Int32) ∧ Rt (.inl (some (jI 1))) H) ∧
  (¬ i_1 = 114 → (i_1 = 115 → jbool (1 : Int32) ∧ Rt (.inl (some (jI 1))) H) ∧
  (¬ i_1 = 115 → (i_1 = 116 → jbool (0 : Int32) ∧ Rt (.inl (some (jI 0))) H) ∧
  (¬ i_1 = 116 → (i_1 = 117 → jbool (0 : Int32) ∧ Rt (.inl (some (jI 0))) H) ∧
  (¬ i_1 = 117 → (i_1 = 118 → jbool (1 : Int32) ∧ Rt (.inl (some (jI 1))) H) ∧
  (¬ i_1 = 118 → jbool (0 : Int32) ∧ Rt (.inl (some (jI 0))) H))))))))))))))))))))) :
  jwp (jprog G) 230 Rt 0 [some (jR this), some (jI i_1)] [] H :=
  junf_wp (jprog_nf G) (stop := jmem []) (pX8_isKind G) 4000 _ _ _ _ h
/-- UnheardBells$Wrong <init>(I)V @0 -/
theorem gX9_init_0 (G : JG) {Rt : JRt} (this : Option Nat) (i_1 : Int32) {H : JHp} (h :
  ∃ a1 : Nat, this = some a1 ∧ /- J16_init_2__X9 -/ ∃ H2 : JHp, jok (jprog G) 232 [jR this, jR none, jR none, jI 0, jI 0] H (.inl none) H2 ∧
  ∃ (a3 : Nat) (fs4 : List JVal) (v5 : JVal), this = some a3 ∧ H2.1 a3 = some (true, jO 9 fs4) ∧ jn fs4 6 = some v5 ∧
  Rt (.inl none) (jup H2 a3 (jO 9 (jset fs4 6 (jI i_1))))) :
  jwp (jprog G) 233 Rt 0 [some (jR this), some (jI i_1)] [] H :=
  junf_wp (jprog_nf G) (stop := jmem []) (pX9_init G) 4000 _ _ _ _ h
/-- UnheardBells$Reader needs(Z)V @0 -/
theorem gX8_needs_0 (G : JG) {Rt : JRt} (this : Option Nat) (i_1 : Int32) {H : JHp} (h :
  (¬ i_1 = 0 →
    Rt (.inl none) H) ∧
  (¬ ¬ i_1 = 0 →
    ∃ (a1 : Nat) (fs2 : List JVal) (x3 : Int32), this = some a1 ∧ job (jnew H (jO 9 [jR none, jR none, jR none, jR none, jR none, jI 0, jI 0]) 7) a1 8 fs2 ∧ jn fs2 0 = some (jI x3) ∧
    ∃ a4 : Nat, (some H.2.1) = some a4 ∧ /- X9_init -/ ∃ H5 : JHp, jok (jprog G) 233 [jR (some H.2.1), jI x3] (jnew H (jO 9 [jR none, jR none, jR none, jR none, jR none, jI 0, jI 0]) 7) (.inl none) H5 ∧
    ∃ (e6 : Nat) (fs7 : List JVal), (some H.2.1) = some e6 ∧ H5.1 e6 = some (true, jO 9 fs7) ∧ Rt (.inr e6) H5)) :
  jwp (jprog G) 234 Rt 0 [some (jR this), some (jI i_1)] [] H :=
  junf_wp (jprog_nf G) (stop := jmem []) (pX8_needs G) 4000 _ _ _ _ h
/-- UnheardBells$Command <init>(I)V @0 -/
theorem gX10_init_0 (G : JG) {Rt : JRt} (this : Option Nat) (i_1 : Int32) {H : JHp} (h :
  ∃ a1 : Nat, this = some a1 ∧
  ∃ (a2 : Nat) (fs3 : List JVal) (v4 : JVal), this = some a2 ∧ H.1 a2 = some (true, jO 10 fs3) ∧ jn fs3 0 = some v4 ∧
  Rt (.inl none) (jup H a2 (jO 10 (jset fs3 0 (jI i_1))))) :
  jwp (jprog G) 235 Rt 0 [some (jR this), some (jI i_1)] [] H :=
  junf_wp (jprog_nf G) (stop := jmem []) (pX10_init G) 4000 _ _ _ _ h
/-- UnheardBells$Reader number(I)I @0 -/
theorem gX8_number_0 (G : JG) {Rt : JRt} (this : Option Nat) (i_1 : Int32) {H : JHp} (h :
  ∃ (a1 : Nat) (fs2 : List JVal), this = some a1 ∧ job H a1 8 fs2 ∧ /- X8_here -/ ∃ (x4 : Int32) (H3 : JHp), jok (jprog G) 229 [jR this] H (.inl (some (jI x4))) H3 ∧
  /- X0_isIn -/ ∃ (x6 : Int32) (H5 : JHp), jok (jprog G) 184 [jI x4, jI 48, jI 57] H3 (.inl (some (jI x6))) H5 ∧
  ∃ (a7 : Nat) (fs8 : List JVal), this = some a7 ∧ job H5 a7 8 fs8 ∧ /- X8_needs -/ ∃ (o10 : JOut) (H9 : JHp), jok (jprog G) 234 [jR this, jI x6] H5 o10 H9 ∧
  ((o10 = (.inl none) ∧
    jwp (jprog G) 236 Rt 19 [some (jR this), some (jI i_1), some (jI 0), some (jI 0)] [] H9) ∨
   (∃ (e11 : Nat), o10 = .inr e11 ∧ ∃ (fs12 : List JVal), H9.1 e11 = some (true, jO 9 fs12) ∧ Rt (.inr e11) H9))) :
  jwp (jprog G) 236 Rt 0 [some (jR this), some (jI i_1), none, none] [] H :=
  junf_wp (jprog_nf G) (stop := jmem [19]) (pX8_number G) 4000 _ _ _ _ h
/-- UnheardBells$Reader number(I)I @19 -/
theorem gX8_number_19 (G : JG) {Rt : JRt} (r_0 : Option Nat) (i_1 : Int32) (i_2 : Int32) (i_3 : Int32) {H : JHp} (h :
  (i_1 ≤ i_3 →
    Rt (.inl (some (jI i_2))) H) ∧
  (¬ i_1 ≤ i_3 →
    ∃ (a1 : Nat) (fs2 : List JVal), r_0 = some a1 ∧ job H a1 8 fs2 ∧ /- X8_here -/ ∃ (x4 : Int32) (H3 : JHp), jok (jprog G) 229 [jR r_0] H (.inl (some (jI x4))) H3 ∧
    /- X0_isIn -/ ∃ (x6 : Int32) (H5 : JHp), jok (jprog G) 184 [jI x4, jI 48, jI 57] H3 (.inl (some (jI x6))) H5 ∧
    (x6 = 0 →
      Rt (.inl (some (jI i_2))) H5) ∧
    (¬ x6 = 0 →
      ∃ (a7 : Nat) (fs8 : List JVal), r_0 = some a7 ∧ job H5 a7 8 fs8 ∧ /- X8_here -/ ∃ (x10 : Int32) (H9 : JHp), jok (jprog G) 229 [jR r_0] H5 (.inl (some (jI x10))) H9 ∧
      ∃ (a11 : Nat) (fs12 : List JVal) (x13 : Int32), r_0 = some a11 ∧ job H9 a11 8 fs12 ∧ jn fs12 0 = some (jI x13) ∧
      ∃ (a14 : Nat) (fs15 : List JVal) (v16 : JVal), r_0 = some a14 ∧ H9.1 a14 = some (true, jO 8 fs15) ∧ jn fs15 0 = some v16 ∧
      jwp (jprog G) 236 Rt 19 [some (jR r_0), some (jI i_1), some (jI ((((10 : Int32) * i_2) + x10) - (48 : Int32))), some (jI (i_3 + 1))] [] (jup H9 a14 (jO 8 (jset fs15 0 (jI (x13 + (1 : Int32))))))))) :
  jwp (jprog G) 236 Rt 19 [some (jR r_0), some (jI i_1), some (jI i_2), some (jI i_3)] [] H :=
  junf_wp (jprog_nf G) (stop := jmem [19]) (pX8_number G) 4000 _ _ _ _ h
/-- UnheardBells$Reader takes(I)Z @0 -/
theorem gX8_takes_0 (G : JG) {Rt : JRt} (this : Option Nat) (i_1 : Int32) {H : JHp} (h :
  ∃ (a1 : Nat) (fs2 : List JVal), this = some a1 ∧ job H a1 8 fs2 ∧ /- X8_here -/ ∃ (x4 : Int32) (H3 : JHp), jok (jprog G) 229 [jR this] H (.inl (some (jI x4))) H3 ∧
  (¬ x4 = i_1 →
    jwp (jprog G) 237 Rt 13 [some (jR this), some (jI i_1), none] [jI 0] H3) ∧
  (¬ ¬ x4 = i_1 →
    jwp (jprog G) 237 Rt 13 [some (jR this), some (jI i_1), none] [jI 1] H3)) :
  jwp (jprog G) 237 Rt 0 [some (jR this), some (jI i_1), none] [] H :=
  junf_wp (jprog_nf G) (stop := jmem [13]) (pX8_takes G) 4000 _ _ _ _ h
/-- UnheardBells$Reader takes(I)Z @13 -/
theorem gX8_takes_13 (G : JG) {Rt : JRt} (r_0 : Option Nat) (q_1 : Option JVal) (q_2 : Option JVal) (si_0 : Int32) {H : JHp} (h :
  ∃ (a1 : Nat) (fs2 : List JVal) (x3 : Int32), r_0 = some a1 ∧ job H a1 8 fs2 ∧ jn fs2 0 = some (jI x3) ∧
  (si_0 = 0 →
    ∃ (a4 : Nat) (fs5 : List JVal) (v6 : JVal), r_0 = some a4 ∧ H.1 a4 = some (true, jO 8 fs5) ∧ jn fs5 0 = some v6 ∧
    jbool si_0 ∧ Rt (.inl (some (jI si_0))) (jup H a4 (jO 8 (jset fs5 0 (jI (x3 + (0 : Int32))))))) ∧
  (¬ si_0 = 0 →
    ∃ (a7 : Nat) (fs8 : List JVal) (v9 : JVal), r_0 = some a7 ∧ H.1 a7 = some (true, jO 8 fs8) ∧ jn fs8 0 = some v9 ∧
    jbool si_0 ∧ Rt (.inl (some (jI si_0))) (jup H a7 (jO 8 (jset fs8 0 (jI (x3 + (1 : Int32)))))))) :
  jwp (jprog G) 237 Rt 13 [some (jR r_0), q_1, q_2] [jI si_0] H :=
  junf_wp (jprog_nf G) (stop := jmem [13]) (pX8_takes G) 4000 _ _ _ _ h
/-- UnheardBells$Reader numberBehind(II)I @0 -/
theorem gX8_numberBehind_0 (G : JG) {Rt : JRt} (this : Option Nat) (i_1 : Int32) (i_2 : Int32) {H : JHp} (h :
  ∃ (a1 : Nat) (fs2 : List JVal), this = some a1 ∧ job H a1 8 fs2 ∧ /- X8_takes -/ ∃ (x4 : Int32) (H3 : JHp), jok (jprog G) 237 [jR this, jI i_1] H (.inl (some (jI x4))) H3 ∧
  ∃ (a5 : Nat) (fs6 : List JVal), this = some a5 ∧ job H3 a5 8 fs6 ∧ /- X8_needs -/ ∃ (o8 : JOut) (H7 : JHp), jok (jprog G) 234 [jR this, jI x4] H3 o8 H7 ∧
  ((o8 = (.inl none) ∧
    ∃ (a11 : Nat) (fs12 : List JVal), this = some a11 ∧ job H7 a11 8 fs12 ∧ /- X8_number -/ ∃ (o15 : JOut) (H13 : JHp), jok (jprog G) 236 [jR this, jI i_2] H7 o15 H13 ∧
    ((∃ x14 : Int32, o15 = (.inl (some (jI x14))) ∧
      Rt (.inl (some (jI x14))) H13) ∨
     (∃ (e16 : Nat), o15 = .inr e16 ∧ ∃ (fs17 : List JVal), H13.1 e16 = some (true, jO 9 fs17) ∧ Rt (.inr e16) H13))) ∨
   (∃ (e9 : Nat), o8 = .inr e9 ∧ ∃ (fs10 : List JVal), H7.1 e9 = some (true, jO 9 fs10) ∧ Rt (.inr e9) H7))) :
  jwp (jprog G) 238 Rt 0 [some (jR this), some (jI i_1), some (jI i_2)] [] H :=
  junf_wp (jprog_nf G) (stop := jmem []) (pX8_numberBehind G) 4000 _ _ _ _ h
/-- UnheardBells$Reader isOn()I @0 -/
theorem gX8_isOn_0 (G : JG) {Rt : JRt} (this : Option Nat) {H : JHp} (h :
  ∃ (a1 : Nat) (fs2 : List JVal), this = some a1 ∧ job H a1 8 fs2 ∧ /- X8_takes -/ ∃ (x4 : Int32) (H3 : JHp), jok (jprog G) 237 [jR this, jI 43] H (.inl (some (jI x4))) H3 ∧
  (¬ x4 = 0 →
    ∃ (a5 : Nat) (fs6 : List JVal), this = some a5 ∧ job H3 a5 8 fs6 ∧ /- X8_needs -/ ∃ (o8 : JOut) (H7 : JHp), jok (jprog G) 234 [jR this, jI 1] H3 o8 H7 ∧
    ((o8 = (.inl none) ∧
      (x4 = 0 →
        Rt (.inl (some (jI 0))) H7) ∧
      (¬ x4 = 0 →
        Rt (.inl (some (jI 1))) H7)) ∨
     (∃ (e9 : Nat), o8 = .inr e9 ∧ ∃ (fs10 : List JVal), H7.1 e9 = some (true, jO 9 fs10) ∧ Rt (.inr e9) H7))) ∧
  (¬ ¬ x4 = 0 →
    ∃ (a11 : Nat) (fs12 : List JVal), this = some a11 ∧ job H3 a11 8 fs12 ∧ /- X8_takes -/ ∃ (x14 : Int32) (H13 : JHp), jok (jprog G) 237 [jR this, jI 45] H3 (.inl (some (jI x14))) H13 ∧
    (x14 = 0 →
      ∃ (a15 : Nat) (fs16 : List JVal), this = some a15 ∧ job H13 a15 8 fs16 ∧ /- X8_needs -/ ∃ (o18 : JOut) (H17 : JHp), jok (jprog G) 234 [jR this, jI 0] H13 o18 H17 ∧
      ((o18 = (.inl none) ∧
        (x4 = 0 →
          Rt (.inl (some (jI 0))) H17) ∧
        (¬ x4 = 0 →
          Rt (.inl (some (jI 1))) H17)) ∨
       (∃ (e19 : Nat), o18 = .inr e19 ∧ ∃ (fs20 : List JVal), H17.1 e19 = some (true, jO 9 fs20) ∧ Rt (.inr e19) H17))) ∧
    (¬ x14 = 0 →
      ∃ (a21 : Nat) (fs22 : List JVal), this = some a21 ∧ job H13 a21 8 fs22 ∧ /- X8_needs -/ ∃ (o24 : JOut) (H23 : JHp), jok (jprog G) 234 [jR this, jI 1] H13 o24 H23 ∧
      ((o24 = (.inl none) ∧
        (x4 = 0 →
          Rt (.inl (some (jI 0))) H23) ∧
        (¬ x4 = 0 →
          Rt (.inl (some (jI 1))) H23)) ∨
       (∃ (e25 : Nat), o24 = .inr e25 ∧ ∃ (fs26 : List JVal), H23.1 e25 = some (true, jO 9 fs26) ∧ Rt (.inr e25) H23))))) :
  jwp (jprog G) 239 Rt 0 [some (jR this), none] [] H :=
  junf_wp (jprog_nf G) (stop := jmem []) (pX8_isOn G) 4000 _ _ _ _ h
/-- UnheardBells$Reader rest(LUnheardBells$Command;)V @0 -/
theorem gX8_rest_0 (G : JG) {Rt : JRt} (this : Option Nat) (r_1 : Option Nat) {H : JHp} (h :
  ∃ (a1 : Nat) (fs2 : List JVal) (x3 : Int32), r_1 = some a1 ∧ job H a1 10 fs2 ∧ jn fs2 0 = some (jI x3) ∧
  (x3 = 111 → ∃ (a4 : Nat) (fs5 : List JVal), this = some a4 ∧ job H a4 8 fs5 ∧ /- X8_numberBehind -/ ∃ (o8 : JOut) (H6 : JHp), jok (jprog G) 238 [jR this, jI 45, jI 1] H o8 H6 ∧
    ((∃ x7 : Int32, o8 = (.inl (some (jI x7))) ∧
      ∃ (a11 : Nat) (fs12 : List JVal) (v13 : JVal), r_1 = some a11 ∧ H6.1 a11 = some (true, jO 10 fs12) ∧ jn fs12 2 = some v13 ∧
      Rt (.inl none) (jup H6 a11 (jO 10 (jset fs12 2 (jI x7))))) ∨
     (∃ (e9 : Nat), o8 = .inr e9 ∧ ∃ (fs10 : List JVal), H6.1 e9 = some (true, jO 9 fs10) ∧ Rt (.inr e9) H6))) ∧
  (¬ x3 = 111 → (x3 = 112 → ∃ (a14 : Nat) (fs15 : List JVal), this = some a14 ∧ job H a14 8 fs15 ∧ /- X8_numberBehind -/ ∃ (o18 : JOut) (H16 : JHp), jok (jprog G) 238 [jR this, jI 64, jI 2] H o18 H16 ∧
    ((∃ x17 : Int32, o18 = (.inl (some (jI x17))) ∧
      ∃ (a21 : Nat) (fs22 : List JVal) (v23 : JVal), r_1 = some a21 ∧ H16.1 a21 = some (true, jO 10 fs22) ∧ jn fs22 2 = some v23 ∧
      ∃ (a24 : Nat) (fs25 : List JVal), this = some a24 ∧ job (jup H16 a21 (jO 10 (jset fs22 2 (jI x17)))) a24 8 fs25 ∧ /- X8_numberBehind -/ ∃ (o28 : JOut) (H26 : JHp), jok (jprog G) 238 [jR this, jI 42, jI 1] (jup H16 a21 (jO 10 (jset fs22 2 (jI x17)))) o28 H26 ∧
      ((∃ x27 : Int32, o28 = (.inl (some (jI x27))) ∧
        ∃ (a31 : Nat) (fs32 : List JVal) (v33 : JVal), r_1 = some a31 ∧ H26.1 a31 = some (true, jO 10 fs32) ∧ jn fs32 3 = some v33 ∧
        Rt (.inl none) (jup H26 a31 (jO 10 (jset fs32 3 (jI x27))))) ∨
       (∃ (e29 : Nat), o28 = .inr e29 ∧ ∃ (fs30 : List JVal), H26.1 e29 = some (true, jO 9 fs30) ∧ Rt (.inr e29) H26))) ∨
     (∃ (e19 : Nat), o18 = .inr e19 ∧ ∃ (fs20 : List JVal), H16.1 e19 = some (true, jO 9 fs20) ∧ Rt (.inr e19) H16))) ∧
  (¬ x3 = 112 → (x3 = 113 → Rt (.inl none) H) ∧
  (¬ x3 = 113 → (x3 = 114 → Rt (.inl none) H) ∧
  (¬ x3 = 114 → (x3 = 115 → ∃ (a34 : Nat) (fs35 : List JVal), this = some a34 ∧ job H a34 8 fs35 ∧ /- X8_isOn -/ ∃ (o38 : JOut) (H36 : JHp), jok (jprog G) 239 [jR this] H o38 H36 ∧
    ((∃ x37 : Int32, o38 = (.inl (some (jI x37))) ∧
      ∃ (a41 : Nat) (fs42 : List JVal) (v43 : JVal), r_1 = some a41 ∧ H36.1 a41 = some (true, jO 10 fs42) ∧ jn fs42 2 = some v43 ∧
      Rt (.inl none) (jup H36 a41 (jO 10 (jset fs42 2 (jI x37))))) ∨
     (∃ (e39 : Nat), o38 = .inr e39 ∧ ∃ (fs40 : List JVal), H36.1 e39 = some (true, jO 9 fs40) ∧ Rt (.inr e39) H36))) ∧
  (¬ x3 = 115 → (x3 = 116 → Rt (.inl none) H) ∧
  (¬ x3 = 116 → (x3 = 117 → Rt (.inl none) H) ∧
  (¬ x3 = 117 → (x3 = 118 → ∃ (a44 : Nat) (fs45 : List JVal), this = some a44 ∧ job H a44 8 fs45 ∧ /- X8_numberBehind -/ ∃ (o48 : JOut) (H46 : JHp), jok (jprog G) 238 [jR this, jI 58, jI 1] H o48 H46 ∧
    ((∃ x47 : Int32, o48 = (.inl (some (jI x47))) ∧
      ∃ (a51 : Nat) (fs52 : List JVal) (v53 : JVal), r_1 = some a51 ∧ H46.1 a51 = some (true, jO 10 fs52) ∧ jn fs52 2 = some v53 ∧
      Rt (.inl none) (jup H46 a51 (jO 10 (jset fs52 2 (jI x47))))) ∨
     (∃ (e49 : Nat), o48 = .inr e49 ∧ ∃ (fs50 : List JVal), H46.1 e49 = some (true, jO 9 fs50) ∧ Rt (.inr e49) H46))) ∧
  (¬ x3 = 118 → Rt (.inl none) H))))))))) :
  jwp (jprog G) 240 Rt 0 [some (jR this), some (jR r_1)] [] H :=
  junf_wp (jprog_nf G) (stop := jmem []) (pX8_rest G) 4000 _ _ _ _ h
/-- UnheardBells$Reader command()LUnheardBells$Command; @0 -/
theorem gX8_command_0 (G : JG) {Rt : JRt} (this : Option Nat) {H : JHp} (h :
  ∃ (a1 : Nat) (fs2 : List JVal), this = some a1 ∧ job H a1 8 fs2 ∧ /- X8_here -/ ∃ (x4 : Int32) (H3 : JHp), jok (jprog G) 229 [jR this] H (.inl (some (jI x4))) H3 ∧
  ∃ (a5 : Nat) (fs6 : List JVal), this = some a5 ∧ job H3 a5 8 fs6 ∧ /- X8_isKind -/ ∃ (x8 : Int32) (H7 : JHp), jok (jprog G) 230 [jR this, jI x4] H3 (.inl (some (jI x8))) H7 ∧
  ∃ (a9 : Nat) (fs10 : List JVal), this = some a9 ∧ job H7 a9 8 fs10 ∧ /- X8_needs -/ ∃ (o12 : JOut) (H11 : JHp), jok (jprog G) 234 [jR this, jI x8] H7 o12 H11 ∧
  ((o12 = (.inl none) ∧
    ∃ (a15 : Nat) (fs16 : List JVal), this = some a15 ∧ job (jnew H11 (jO 10 [jI 0, jI 0, jI 0, jI 0]) 4) a15 8 fs16 ∧ /- X8_here -/ ∃ (x18 : Int32) (H17 : JHp), jok (jprog G) 229 [jR this] (jnew H11 (jO 10 [jI 0, jI 0, jI 0, jI 0]) 4) (.inl (some (jI x18))) H17 ∧
    ∃ a19 : Nat, (some H11.2.1) = some a19 ∧ /- X10_init -/ ∃ H20 : JHp, jok (jprog G) 235 [jR (some H11.2.1), jI x18] H17 (.inl none) H20 ∧
    ∃ (a21 : Nat) (fs22 : List JVal) (x23 : Int32), this = some a21 ∧ job H20 a21 8 fs22 ∧ jn fs22 0 = some (jI x23) ∧
    ∃ (a24 : Nat) (fs25 : List JVal) (v26 : JVal), this = some a24 ∧ H20.1 a24 = some (true, jO 8 fs25) ∧ jn fs25 0 = some v26 ∧
    ∃ (a27 : Nat) (fs28 : List JVal) (x29 : Int32), (some H11.2.1) = some a27 ∧ job (jup H20 a24 (jO 8 (jset fs25 0 (jI (x23 + (1 : Int32)))))) a27 10 fs28 ∧ jn fs28 0 = some (jI x29) ∧
    (x29 = (110 : Int32) →
      jwp (jprog G) 241 Rt 66 [some (jR this), some (jR (some H11.2.1)), none] [jI 1] (jup H20 a24 (jO 8 (jset fs25 0 (jI (x23 + (1 : Int32))))))) ∧
    (¬ x29 = (110 : Int32) →
      ∃ (a30 : Nat) (fs31 : List JVal) (x32 : Int32), (some H11.2.1) = some a30 ∧ job (jup H20 a24 (jO 8 (jset fs25 0 (jI (x23 + (1 : Int32)))))) a30 10 fs31 ∧ jn fs31 0 = some (jI x32) ∧
      (x32 = (104 : Int32) →
        jwp (jprog G) 241 Rt 66 [some (jR this), some (jR (some H11.2.1)), none] [jI 1] (jup H20 a24 (jO 8 (jset fs25 0 (jI (x23 + (1 : Int32))))))) ∧
      (¬ x32 = (104 : Int32) →
        ∃ (a33 : Nat) (fs34 : List JVal) (x35 : Int32), (some H11.2.1) = some a33 ∧ job (jup H20 a24 (jO 8 (jset fs25 0 (jI (x23 + (1 : Int32)))))) a33 10 fs34 ∧ jn fs34 0 = some (jI x35) ∧
        (¬ x35 = (101 : Int32) →
          jwp (jprog G) 241 Rt 66 [some (jR this), some (jR (some H11.2.1)), none] [jI 0] (jup H20 a24 (jO 8 (jset fs25 0 (jI (x23 + (1 : Int32))))))) ∧
        (¬ ¬ x35 = (101 : Int32) →
          jwp (jprog G) 241 Rt 66 [some (jR this), some (jR (some H11.2.1)), none] [jI 1] (jup H20 a24 (jO 8 (jset fs25 0 (jI (x23 + (1 : Int32)))))))))) ∨
   (∃ (e13 : Nat), o12 = .inr e13 ∧ ∃ (fs14 : List JVal), H11.1 e13 = some (true, jO 9 fs14) ∧ Rt (.inr e13) H11))) :
  jwp (jprog G) 241 Rt 0 [some (jR this), none, none] [] H :=
  junf_wp (jprog_nf G) (stop := jmem [66]) (pX8_command G) 4000 _ _ _ _ h
/-- UnheardBells$Reader command()LUnheardBells$Command; @66 -/
theorem gX8_command_66 (G : JG) {Rt : JRt} (r_0 : Option Nat) (r_1 : Option Nat) (q_2 : Option JVal) (si_0 : Int32) {H : JHp} (h :
  (¬ si_0 = 0 →
    Rt (.inl (some (jR r_1))) H) ∧
  (¬ ¬ si_0 = 0 →
    ∃ (a1 : Nat) (fs2 : List JVal) (x3 : Int32), r_1 = some a1 ∧ job H a1 10 fs2 ∧ jn fs2 0 = some (jI x3) ∧
    (¬ x3 = (114 : Int32) →
      ∃ (a4 : Nat) (fs5 : List JVal), r_0 = some a4 ∧ job H a4 8 fs5 ∧ /- X8_number -/ ∃ (o8 : JOut) (H6 : JHp), jok (jprog G) 236 [jR r_0, jI 2] H o8 H6 ∧
      ((∃ x7 : Int32, o8 = (.inl (some (jI x7))) ∧
        ∃ (a11 : Nat) (fs12 : List JVal) (v13 : JVal), r_1 = some a11 ∧ H6.1 a11 = some (true, jO 10 fs12) ∧ jn fs12 1 = some v13 ∧
        ∃ (a14 : Nat) (fs15 : List JVal), r_0 = some a14 ∧ job (jup H6 a11 (jO 10 (jset fs12 1 (jI x7)))) a14 8 fs15 ∧ /- X8_rest -/ ∃ (o17 : JOut) (H16 : JHp), jok (jprog G) 240 [jR r_0, jR r_1] (jup H6 a11 (jO 10 (jset fs12 1 (jI x7)))) o17 H16 ∧
        ((o17 = (.inl none) ∧
          Rt (.inl (some (jR r_1))) H16) ∨
         (∃ (e18 : Nat), o17 = .inr e18 ∧ ∃ (fs19 : List JVal), H16.1 e18 = some (true, jO 9 fs19) ∧ Rt (.inr e18) H16))) ∨
       (∃ (e9 : Nat), o8 = .inr e9 ∧ ∃ (fs10 : List JVal), H6.1 e9 = some (true, jO 9 fs10) ∧ Rt (.inr e9) H6))) ∧
    (¬ ¬ x3 = (114 : Int32) →
      ∃ (a20 : Nat) (fs21 : List JVal), r_0 = some a20 ∧ job H a20 8 fs21 ∧ /- X8_number -/ ∃ (o24 : JOut) (H22 : JHp), jok (jprog G) 236 [jR r_0, jI 1] H o24 H22 ∧
      ((∃ x23 : Int32, o24 = (.inl (some (jI x23))) ∧
        ∃ (a27 : Nat) (fs28 : List JVal) (v29 : JVal), r_1 = some a27 ∧ H22.1 a27 = some (true, jO 10 fs28) ∧ jn fs28 1 = some v29 ∧
        ∃ (a30 : Nat) (fs31 : List JVal), r_0 = some a30 ∧ job (jup H22 a27 (jO 10 (jset fs28 1 (jI x23)))) a30 8 fs31 ∧ /- X8_rest -/ ∃ (o33 : JOut) (H32 : JHp), jok (jprog G) 240 [jR r_0, jR r_1] (jup H22 a27 (jO 10 (jset fs28 1 (jI x23)))) o33 H32 ∧
        ((o33 = (.inl none) ∧
          Rt (.inl (some (jR r_1))) H32) ∨
         (∃ (e34 : Nat), o33 = .inr e34 ∧ ∃ (fs35 : List JVal), H32.1 e34 = some (true, jO 9 fs35) ∧ Rt (.inr e34) H32))) ∨
       (∃ (e25 : Nat), o24 = .inr e25 ∧ ∃ (fs26 : List JVal), H22.1 e25 = some (true, jO 9 fs26) ∧ Rt (.inr e25) H22))))) :
  jwp (jprog G) 241 Rt 66 [some (jR r_0), some (jR r_1), q_2] [jI si_0] H :=
  junf_wp (jprog_nf G) (stop := jmem [66]) (pX8_command G) 4000 _ _ _ _ h
/-- UnheardBells$Reader commands()Ljava/util/LinkedList; @0 -/
theorem gX8_commands_0 (G : JG) {Rt : JRt} (this : Option Nat) {H : JHp} (h :
  ∃ a1 : Nat, (some H.2.1) = some a1 ∧ /- J36_init -/ ∃ H2 : JHp, jok (jprog G) 147 [jR (some H.2.1)] (jnew H (jO 27 [jI 0, jI 0, jR none, jR none]) 4) (.inl none) H2 ∧
  ∃ (a3 : Nat) (fs4 : List JVal), this = some a3 ∧ job H2 a3 8 fs4 ∧ /- X8_command -/ ∃ (o7 : JOut) (H5 : JHp), jok (jprog G) 241 [jR this] H2 o7 H5 ∧
  ((∃ r6 : Option Nat, o7 = (.inl (some (jR r6))) ∧
    ∃ (a10 : Nat) (fs11 : List JVal), (some H.2.1) = some a10 ∧ job H5 a10 27 fs11 ∧ /- J36_addLast -/ ∃ H12 : JHp, jok (jprog G) 150 [jR (some H.2.1), jR r6] H5 (.inl none) H12 ∧
    jwp (jprog G) 242 Rt 16 [some (jR this), some (jR (some H.2.1))] [] H12) ∨
   (∃ (e8 : Nat), o7 = .inr e8 ∧ ∃ (fs9 : List JVal), H5.1 e8 = some (true, jO 9 fs9) ∧ Rt (.inr e8) H5))) :
  jwp (jprog G) 242 Rt 0 [some (jR this), none] [] H :=
  junf_wp (jprog_nf G) (stop := jmem [16]) (pX8_commands G) 4000 _ _ _ _ h
/-- UnheardBells$Reader commands()Ljava/util/LinkedList; @16 -/
theorem gX8_commands_16 (G : JG) {Rt : JRt} (r_0 : Option Nat) (r_1 : Option Nat) {H : JHp} (h :
  ∃ (a1 : Nat) (fs2 : List JVal), r_0 = some a1 ∧ job H a1 8 fs2 ∧ /- X8_takes -/ ∃ (x4 : Int32) (H3 : JHp), jok (jprog G) 237 [jR r_0, jI 59] H (.inl (some (jI x4))) H3 ∧
  (x4 = 0 →
    ∃ (a5 : Nat) (fs6 : List JVal) (x7 : Int32), r_0 = some a5 ∧ job H3 a5 8 fs6 ∧ jn fs6 0 = some (jI x7) ∧
    ∃ (a8 : Nat) (fs9 : List JVal) (r10 : Option Nat), r_0 = some a8 ∧ job H3 a8 8 fs9 ∧ jn fs9 1 = some (jR r10) ∧
    ∃ (a11 : Nat) (fs12 : List JVal) (r13 : Option Nat), r10 = some a11 ∧ job H3 a11 0 fs12 ∧ jn fs12 6 = some (jR r13) ∧
    ∃ (a14 : Nat) (fs15 : List JVal), r13 = some a14 ∧ job H3 a14 15 fs15 ∧ /- J9_length -/ ∃ (x17 : Int32) (H16 : JHp), jok (jprog G) 176 [jR r13] H3 (.inl (some (jI x17))) H16 ∧
    (¬ x7 = x17 →
      ∃ (a18 : Nat) (fs19 : List JVal), r_0 = some a18 ∧ job H16 a18 8 fs19 ∧ /- X8_needs -/ ∃ (o21 : JOut) (H20 : JHp), jok (jprog G) 234 [jR r_0, jI 0] H16 o21 H20 ∧
      ((o21 = (.inl none) ∧
        Rt (.inl (some (jR r_1))) H20) ∨
       (∃ (e22 : Nat), o21 = .inr e22 ∧ ∃ (fs23 : List JVal), H20.1 e22 = some (true, jO 9 fs23) ∧ Rt (.inr e22) H20))) ∧
    (¬ ¬ x7 = x17 →
      ∃ (a24 : Nat) (fs25 : List JVal), r_0 = some a24 ∧ job H16 a24 8 fs25 ∧ /- X8_needs -/ ∃ (o27 : JOut) (H26 : JHp), jok (jprog G) 234 [jR r_0, jI 1] H16 o27 H26 ∧
      ((o27 = (.inl none) ∧
        Rt (.inl (some (jR r_1))) H26) ∨
       (∃ (e28 : Nat), o27 = .inr e28 ∧ ∃ (fs29 : List JVal), H26.1 e28 = some (true, jO 9 fs29) ∧ Rt (.inr e28) H26)))) ∧
  (¬ x4 = 0 →
    ∃ (a30 : Nat) (fs31 : List JVal), r_0 = some a30 ∧ job H3 a30 8 fs31 ∧ /- X8_command -/ ∃ (o34 : JOut) (H32 : JHp), jok (jprog G) 241 [jR r_0] H3 o34 H32 ∧
    ((∃ r33 : Option Nat, o34 = (.inl (some (jR r33))) ∧
      ∃ (a37 : Nat) (fs38 : List JVal), r_1 = some a37 ∧ job H32 a37 27 fs38 ∧ /- J36_addLast -/ ∃ H39 : JHp, jok (jprog G) 150 [jR r_1, jR r33] H32 (.inl none) H39 ∧
      jwp (jprog G) 242 Rt 16 [some (jR r_0), some (jR r_1)] [] H39) ∨
     (∃ (e35 : Nat), o34 = .inr e35 ∧ ∃ (fs36 : List JVal), H32.1 e35 = some (true, jO 9 fs36) ∧ Rt (.inr e35) H32)))) :
  jwp (jprog G) 242 Rt 16 [some (jR r_0), some (jR r_1)] [] H :=
  junf_wp (jprog_nf G) (stop := jmem [16]) (pX8_commands G) 4000 _ _ _ _ h
/-- UnheardBells isMuch(I)Z @0 -/
theorem gX0_isMuch_0 (G : JG) {Rt : JRt} (i_0 : Int32) {H : JHp} (h :
  /- X0_isIn -/ ∃ (x2 : Int32) (H1 : JHp), jok (jprog G) 184 [jI i_0, jI 1, jI 9] H (.inl (some (jI x2))) H1 ∧
  jbool x2 ∧ Rt (.inl (some (jI x2))) H1) :
  jwp (jprog G) 247 Rt 0 [some (jI i_0)] [] H :=
  junf_wp (jprog_nf G) (stop := jmem []) (pX0_isMuch G) 4000 _ _ _ _ h
/-- UnheardBells$Refused <init>(II)V @0 -/
theorem gX5_init_0 (G : JG) {Rt : JRt} (this : Option Nat) (i_1 : Int32) (i_2 : Int32) {H : JHp} (h :
  ∃ a1 : Nat, this = some a1 ∧ /- J16_init_2__X5 -/ ∃ H2 : JHp, jok (jprog G) 249 [jR this, jR none, jR none, jI 0, jI 0] H (.inl none) H2 ∧
  ∃ (a3 : Nat) (fs4 : List JVal) (v5 : JVal), this = some a3 ∧ H2.1 a3 = some (true, jO 5 fs4) ∧ jn fs4 6 = some v5 ∧
  ∃ (a6 : Nat) (fs7 : List JVal) (v8 : JVal), this = some a6 ∧ (jup H2 a3 (jO 5 (jset fs4 6 (jI i_1)))).1 a6 = some (true, jO 5 fs7) ∧ jn fs7 7 = some v8 ∧
  Rt (.inl none) (jup (jup H2 a3 (jO 5 (jset fs4 6 (jI i_1)))) a6 (jO 5 (jset fs7 7 (jI i_2))))) :
  jwp (jprog G) 250 Rt 0 [some (jR this), some (jI i_1), some (jI i_2)] [] H :=
  junf_wp (jprog_nf G) (stop := jmem []) (pX5_init G) 4000 _ _ _ _ h
/-- UnheardBells refuse(ZII)V @0 -/
theorem gX0_refuse_0 (G : JG) {Rt : JRt} (i_0 : Int32) (i_1 : Int32) (i_2 : Int32) {H : JHp} (h :
  (i_0 = 0 →
    Rt (.inl none) H) ∧
  (¬ i_0 = 0 →
    ∃ a1 : Nat, (some H.2.1) = some a1 ∧ /- X5_init -/ ∃ H2 : JHp, jok (jprog G) 250 [jR (some H.2.1), jI i_1, jI i_2] (jnew H (jO 5 [jR none, jR none, jR none, jR none, jR none, jI 0, jI 0, jI 0]) 8) (.inl none) H2 ∧
    ∃ (e3 : Nat) (fs4 : List JVal), (some H.2.1) = some e3 ∧ H2.1 e3 = some (true, jO 5 fs4) ∧ Rt (.inr e3) H2)) :
  jwp (jprog G) 251 Rt 0 [some (jI i_0), some (jI i_1), some (jI i_2)] [] H :=
  junf_wp (jprog_nf G) (stop := jmem []) (pX0_refuse G) 4000 _ _ _ _ h
/-- UnheardBells$Machine oils(II)I @0 -/
theorem gX1_oils_0 (G : JG) {Rt : JRt} (this : Option Nat) (i_1 : Int32) (i_2 : Int32) {H : JHp} (h :
  ∃ (a1 : Nat) (fs2 : List JVal) (r3 : Option Nat), this = some a1 ∧ job H a1 1 fs2 ∧ jn fs2 0 = some (jR r3) ∧
  ∃ (a4 : Nat) (fs5 : List JVal), r3 = some a4 ∧ job H a4 11 fs5 ∧ /- J2_get -/ ∃ (r7 : Option Nat) (H6 : JHp), jok (jprog G) 132 [jR r3, jI i_1] H (.inl (some (jR r7))) H6 ∧
  (∀ a, r7 = some a → ∃ fs, job H6 a 4 fs) ∧
  ∃ (a8 : Nat) (fs9 : List JVal) (x10 : Int32), r7 = some a8 ∧ job H6 a8 4 fs9 ∧ jn fs9 2 = some (jI x10) ∧
  (i_2 ≤ x10 →
    ∃ (a11 : Nat) (fs12 : List JVal) (x13 : Int32), r7 = some a11 ∧ job H6 a11 4 fs12 ∧ jn fs12 2 = some (jI x13) ∧
    /- X0_refuse -/ ∃ (o15 : JOut) (H14 : JHp), jok (jprog G) 251 [jI 0, jI 5, jI x13] H6 o15 H14 ∧
    ((o15 = (.inl none) ∧
      ∃ (a18 : Nat) (fs19 : List JVal) (x20 : Int32), r7 = some a18 ∧ job H14 a18 4 fs19 ∧ jn fs19 2 = some (jI x20) ∧
      ∃ (a21 : Nat) (fs22 : List JVal) (v23 : JVal), r7 = some a21 ∧ H14.1 a21 = some (true, jO 4 fs22) ∧ jn fs22 2 = some v23 ∧
      ∃ (a24 : Nat) (fs25 : List JVal) (x26 : Int32), r7 = some a24 ∧ job (jup H14 a21 (jO 4 (jset fs22 2 (jI (x20 - i_2))))) a24 4 fs25 ∧ jn fs25 2 = some (jI x26) ∧
      Rt (.inl (some (jI x26))) (jup H14 a21 (jO 4 (jset fs22 2 (jI (x20 - i_2)))))) ∨
     (∃ (e16 : Nat), o15 = .inr e16 ∧ ∃ (fs17 : List JVal), H14.1 e16 = some (true, jO 5 fs17) ∧ Rt (.inr e16) H14))) ∧
  (¬ i_2 ≤ x10 →
    ∃ (a27 : Nat) (fs28 : List JVal) (x29 : Int32), r7 = some a27 ∧ job H6 a27 4 fs28 ∧ jn fs28 2 = some (jI x29) ∧
    /- X0_refuse -/ ∃ (o31 : JOut) (H30 : JHp), jok (jprog G) 251 [jI 1, jI 5, jI x29] H6 o31 H30 ∧
    ((o31 = (.inl none) ∧
      ∃ (a34 : Nat) (fs35 : List JVal) (x36 : Int32), r7 = some a34 ∧ job H30 a34 4 fs35 ∧ jn fs35 2 = some (jI x36) ∧
      ∃ (a37 : Nat) (fs38 : List JVal) (v39 : JVal), r7 = some a37 ∧ H30.1 a37 = some (true, jO 4 fs38) ∧ jn fs38 2 = some v39 ∧
      ∃ (a40 : Nat) (fs41 : List JVal) (x42 : Int32), r7 = some a40 ∧ job (jup H30 a37 (jO 4 (jset fs38 2 (jI (x36 - i_2))))) a40 4 fs41 ∧ jn fs41 2 = some (jI x42) ∧
      Rt (.inl (some (jI x42))) (jup H30 a37 (jO 4 (jset fs38 2 (jI (x36 - i_2)))))) ∨
     (∃ (e32 : Nat), o31 = .inr e32 ∧ ∃ (fs33 : List JVal), H30.1 e32 = some (true, jO 5 fs33) ∧ Rt (.inr e32) H30)))) :
  jwp (jprog G) 252 Rt 0 [some (jR this), some (jI i_1), some (jI i_2), none] [] H :=
  junf_wp (jprog_nf G) (stop := jmem []) (pX1_oils G) 4000 _ _ _ _ h
/-- UnheardBells isParish(I)Z @0 -/
theorem gX0_isParish_0 (G : JG) {Rt : JRt} (i_0 : Int32) {H : JHp} (h :
  /- X0_isIn -/ ∃ (x2 : Int32) (H1 : JHp), jok (jprog G) 184 [jI i_0, jI 0, jI 3] H (.inl (some (jI x2))) H1 ∧
  jbool x2 ∧ Rt (.inl (some (jI x2))) H1) :
  jwp (jprog G) 253 Rt 0 [some (jI i_0)] [] H :=
  junf_wp (jprog_nf G) (stop := jmem []) (pX0_isParish G) 4000 _ _ _ _ h
/-- UnheardBells$Machine moves(II)I @0 -/
theorem gX1_moves_0 (G : JG) {Rt : JRt} (this : Option Nat) (i_1 : Int32) (i_2 : Int32) {H : JHp} (h :
  ∃ (a1 : Nat) (fs2 : List JVal) (r3 : Option Nat), this = some a1 ∧ job H a1 1 fs2 ∧ jn fs2 0 = some (jR r3) ∧
  ∃ (a4 : Nat) (fs5 : List JVal), r3 = some a4 ∧ job H a4 11 fs5 ∧ /- J2_get -/ ∃ (r7 : Option Nat) (H6 : JHp), jok (jprog G) 132 [jR r3, jI i_1] H (.inl (some (jR r7))) H6 ∧
  (∀ a, r7 = some a → ∃ fs, job H6 a 4 fs) ∧
  ∃ (a8 : Nat) (fs9 : List JVal) (x10 : Int32), r7 = some a8 ∧ job H6 a8 4 fs9 ∧ jn fs9 0 = some (jI x10) ∧
  (¬ x10 = i_2 →
    /- X0_refuse -/ ∃ (o12 : JOut) (H11 : JHp), jok (jprog G) 251 [jI 0, jI 4, jI i_2] H6 o12 H11 ∧
    ((o12 = (.inl none) ∧
      ∃ (a15 : Nat) (fs16 : List JVal) (v17 : JVal), r7 = some a15 ∧ H11.1 a15 = some (true, jO 4 fs16) ∧ jn fs16 0 = some v17 ∧
      Rt (.inl (some (jI x10))) (jup H11 a15 (jO 4 (jset fs16 0 (jI i_2))))) ∨
     (∃ (e13 : Nat), o12 = .inr e13 ∧ ∃ (fs14 : List JVal), H11.1 e13 = some (true, jO 5 fs14) ∧ Rt (.inr e13) H11))) ∧
  (¬ ¬ x10 = i_2 →
    /- X0_refuse -/ ∃ (o19 : JOut) (H18 : JHp), jok (jprog G) 251 [jI 1, jI 4, jI i_2] H6 o19 H18 ∧
    ((o19 = (.inl none) ∧
      ∃ (a22 : Nat) (fs23 : List JVal) (v24 : JVal), r7 = some a22 ∧ H18.1 a22 = some (true, jO 4 fs23) ∧ jn fs23 0 = some v24 ∧
      Rt (.inl (some (jI x10))) (jup H18 a22 (jO 4 (jset fs23 0 (jI i_2))))) ∨
     (∃ (e20 : Nat), o19 = .inr e20 ∧ ∃ (fs21 : List JVal), H18.1 e20 = some (true, jO 5 fs21) ∧ Rt (.inr e20) H18)))) :
  jwp (jprog G) 254 Rt 0 [some (jR this), some (jI i_1), some (jI i_2), none, none] [] H :=
  junf_wp (jprog_nf G) (stop := jmem []) (pX1_moves G) 4000 _ _ _ _ h
/-- UnheardBells$Machine sensors()I @0 -/
theorem gX1_sensors_0 (G : JG) {Rt : JRt} (this : Option Nat) {H : JHp} (h :
  ∃ (a1 : Nat) (fs2 : List JVal) (r3 : Option Nat), this = some a1 ∧ job H a1 1 fs2 ∧ jn fs2 0 = some (jR r3) ∧
  ∃ (a4 : Nat) (fs5 : List JVal), r3 = some a4 ∧ job H a4 11 fs5 ∧ /- J2_iterator -/ ∃ (r7 : Option Nat) (H6 : JHp), jok (jprog G) 18 [jR r3] H (.inl (some (jR r7))) H6 ∧
  jwp (jprog G) 255 Rt 10 [some (jR this), some (jI 0), some (jR r7), none] [] H6) :
  jwp (jprog G) 255 Rt 0 [some (jR this), none, none, none] [] H :=
  junf_wp (jprog_nf G) (stop := jmem [10]) (pX1_sensors G) 4000 _ _ _ _ h
/-- UnheardBells$Machine sensors()I @10 -/
theorem gX1_sensors_10 (G : JG) {Rt : JRt} (q_0 : Option JVal) (i_1 : Int32) (r_2 : Option Nat) (q_3 : Option JVal) {H : JHp} (h :
  ∃ (a1 : Nat) (fs2 : List JVal), r_2 = some a1 ∧ job H a1 17 fs2 ∧ /- J12_hasNext -/ ∃ (x4 : Int32) (H3 : JHp), jok (jprog G) 19 [jR r_2] H (.inl (some (jI x4))) H3 ∧
  (x4 = 0 →
    Rt (.inl (some (jI i_1))) H3) ∧
  (¬ x4 = 0 →
    ∃ (a5 : Nat) (fs6 : List JVal), r_2 = some a5 ∧ job H3 a5 17 fs6 ∧ /- J12_next -/ ∃ (r8 : Option Nat) (H7 : JHp), jok (jprog G) 21 [jR r_2] H3 (.inl (some (jR r8))) H7 ∧
    (∀ a, r8 = some a → ∃ fs, job H7 a 4 fs) ∧
    ∃ (a9 : Nat) (fs10 : List JVal) (x11 : Int32), r8 = some a9 ∧ job H7 a9 4 fs10 ∧ jn fs10 1 = some (jI x11) ∧
    (x11 = 0 →
      jwp (jprog G) 255 Rt 10 [(jclr q_0), some (jI (i_1 + (0 : Int32))), some (jR r_2), some (jR r8)] [] H7) ∧
    (¬ x11 = 0 →
      jwp (jprog G) 255 Rt 10 [(jclr q_0), some (jI (i_1 + (1 : Int32))), some (jR r_2), some (jR r8)] [] H7))) :
  jwp (jprog G) 255 Rt 10 [q_0, some (jI i_1), some (jR r_2), q_3] [] H :=
  junf_wp (jprog_nf G) (stop := jmem [10]) (pX1_sensors G) 4000 _ _ _ _ h
/-- UnheardBells$Machine puts(IZ)I @0 -/
theorem gX1_puts_0 (G : JG) {Rt : JRt} (this : Option Nat) (i_1 : Int32) (i_2 : Int32) {H : JHp} (h :
  ∃ (a1 : Nat) (fs2 : List JVal) (r3 : Option Nat), this = some a1 ∧ job H a1 1 fs2 ∧ jn fs2 0 = some (jR r3) ∧
  ∃ (a4 : Nat) (fs5 : List JVal), r3 = some a4 ∧ job H a4 11 fs5 ∧ /- J2_get -/ ∃ (r7 : Option Nat) (H6 : JHp), jok (jprog G) 132 [jR r3, jI i_1] H (.inl (some (jR r7))) H6 ∧
  (∀ a, r7 = some a → ∃ fs, job H6 a 4 fs) ∧
  ∃ (a8 : Nat) (fs9 : List JVal) (x10 : Int32), r7 = some a8 ∧ job H6 a8 4 fs9 ∧ jn fs9 1 = some (jI x10) ∧
  (¬ x10 = i_2 →
    jwp (jprog G) 256 Rt 25 [some (jR this), some (jI i_1), some (jI i_2), some (jR r7)] [jI 0] H6) ∧
  (¬ ¬ x10 = i_2 →
    jwp (jprog G) 256 Rt 25 [some (jR this), some (jI i_1), some (jI i_2), some (jR r7)] [jI 1] H6)) :
  jwp (jprog G) 256 Rt 0 [some (jR this), some (jI i_1), some (jI i_2), none] [] H :=
  junf_wp (jprog_nf G) (stop := jmem [25]) (pX1_puts G) 4000 _ _ _ _ h
/-- UnheardBells$Machine puts(IZ)I @25 -/
theorem gX1_puts_25 (G : JG) {Rt : JRt} (r_0 : Option Nat) (q_1 : Option JVal) (i_2 : Int32) (r_3 : Option Nat) (si_0 : Int32) {H : JHp} (h :
  (i_2 = 0 →
    /- X0_refuse -/ ∃ (o2 : JOut) (H1 : JHp), jok (jprog G) 251 [jI si_0, jI 4, jI 0] H o2 H1 ∧
    ((o2 = (.inl none) ∧
      jbool i_2 ∧ ∃ (a5 : Nat) (fs6 : List JVal) (v7 : JVal), r_3 = some a5 ∧ H1.1 a5 = some (true, jO 4 fs6) ∧ jn fs6 1 = some v7 ∧
      ∃ (a8 : Nat) (fs9 : List JVal), r_0 = some a8 ∧ job (jup H1 a5 (jO 4 (jset fs6 1 (jI i_2)))) a8 1 fs9 ∧ /- X1_sensors -/ ∃ (x11 : Int32) (H10 : JHp), jok (jprog G) 255 [jR r_0] (jup H1 a5 (jO 4 (jset fs6 1 (jI i_2)))) (.inl (some (jI x11))) H10 ∧
      Rt (.inl (some (jI x11))) H10) ∨
     (∃ (e3 : Nat), o2 = .inr e3 ∧ ∃ (fs4 : List JVal), H1.1 e3 = some (true, jO 5 fs4) ∧ Rt (.inr e3) H1))) ∧
  (¬ i_2 = 0 →
    /- X0_refuse -/ ∃ (o13 : JOut) (H12 : JHp), jok (jprog G) 251 [jI si_0, jI 4, jI 1] H o13 H12 ∧
    ((o13 = (.inl none) ∧
      jbool i_2 ∧ ∃ (a16 : Nat) (fs17 : List JVal) (v18 : JVal), r_3 = some a16 ∧ H12.1 a16 = some (true, jO 4 fs17) ∧ jn fs17 1 = some v18 ∧
      ∃ (a19 : Nat) (fs20 : List JVal), r_0 = some a19 ∧ job (jup H12 a16 (jO 4 (jset fs17 1 (jI i_2)))) a19 1 fs20 ∧ /- X1_sensors -/ ∃ (x22 : Int32) (H21 : JHp), jok (jprog G) 255 [jR r_0] (jup H12 a16 (jO 4 (jset fs17 1 (jI i_2)))) (.inl (some (jI x22))) H21 ∧
      Rt (.inl (some (jI x22))) H21) ∨
     (∃ (e14 : Nat), o13 = .inr e14 ∧ ∃ (fs15 : List JVal), H12.1 e14 = some (true, jO 5 fs15) ∧ Rt (.inr e14) H12)))) :
  jwp (jprog G) 256 Rt 25 [some (jR r_0), q_1, some (jI i_2), some (jR r_3)] [jI si_0] H :=
  junf_wp (jprog_nf G) (stop := jmem [25]) (pX1_puts G) 4000 _ _ _ _ h
/-- UnheardBells isHour(I)Z @0 -/
theorem gX0_isHour_0 (G : JG) {Rt : JRt} (i_0 : Int32) {H : JHp} (h :
  /- X0_isIn -/ ∃ (x2 : Int32) (H1 : JHp), jok (jprog G) 184 [jI i_0, jI 0, jI 23] H (.inl (some (jI x2))) H1 ∧
  jbool x2 ∧ Rt (.inl (some (jI x2))) H1) :
  jwp (jprog G) 257 Rt 0 [some (jI i_0)] [] H :=
  junf_wp (jprog_nf G) (stop := jmem []) (pX0_isHour G) 4000 _ _ _ _ h
/-- UnheardBells isStrength(I)Z @0 -/
theorem gX0_isStrength_0 (G : JG) {Rt : JRt} (i_0 : Int32) {H : JHp} (h :
  /- X0_isIn -/ ∃ (x2 : Int32) (H1 : JHp), jok (jprog G) 184 [jI i_0, jI 1, jI 9] H (.inl (some (jI x2))) H1 ∧
  jbool x2 ∧ Rt (.inl (some (jI x2))) H1) :
  jwp (jprog G) 258 Rt 0 [some (jI i_0)] [] H :=
  junf_wp (jprog_nf G) (stop := jmem []) (pX0_isStrength G) 4000 _ _ _ _ h
/-- UnheardBells$Pull <init>(IIII)V @0 -/
theorem gX6_init_0 (G : JG) {Rt : JRt} (this : Option Nat) (i_1 : Int32) (i_2 : Int32) (i_3 : Int32) (i_4 : Int32) {H : JHp} (h :
  ∃ a1 : Nat, this = some a1 ∧
  ∃ (a2 : Nat) (fs3 : List JVal) (v4 : JVal), this = some a2 ∧ H.1 a2 = some (true, jO 6 fs3) ∧ jn fs3 0 = some v4 ∧
  ∃ (a5 : Nat) (fs6 : List JVal) (v7 : JVal), this = some a5 ∧ (jup H a2 (jO 6 (jset fs3 0 (jI i_1)))).1 a5 = some (true, jO 6 fs6) ∧ jn fs6 1 = some v7 ∧
  ∃ (a8 : Nat) (fs9 : List JVal) (v10 : JVal), this = some a8 ∧ (jup (jup H a2 (jO 6 (jset fs3 0 (jI i_1)))) a5 (jO 6 (jset fs6 1 (jI i_2)))).1 a8 = some (true, jO 6 fs9) ∧ jn fs9 2 = some v10 ∧
  ∃ (a11 : Nat) (fs12 : List JVal) (v13 : JVal), this = some a11 ∧ (jup (jup (jup H a2 (jO 6 (jset fs3 0 (jI i_1)))) a5 (jO 6 (jset fs6 1 (jI i_2)))) a8 (jO 6 (jset fs9 2 (jI i_3)))).1 a11 = some (true, jO 6 fs12) ∧ jn fs12 3 = some v13 ∧
  Rt (.inl none) (jup (jup (jup (jup H a2 (jO 6 (jset fs3 0 (jI i_1)))) a5 (jO 6 (jset fs6 1 (jI i_2)))) a8 (jO 6 (jset fs9 2 (jI i_3)))) a11 (jO 6 (jset fs12 3 (jI i_4))))) :
  jwp (jprog G) 259 Rt 0 [some (jR this), some (jI i_1), some (jI i_2), some (jI i_3), some (jI i_4)] [] H :=
  junf_wp (jprog_nf G) (stop := jmem []) (pX6_init G) 4000 _ _ _ _ h
/-- UnheardBells$Machine waits(III)I @0 -/
theorem gX1_waits_0 (G : JG) {Rt : JRt} (this : Option Nat) (i_1 : Int32) (i_2 : Int32) (i_3 : Int32) {H : JHp} (h :
  ∃ (a1 : Nat) (fs2 : List JVal) (x3 : Int32), this = some a1 ∧ job H a1 1 fs2 ∧ jn fs2 4 = some (jI x3) ∧
  (x3 ≤ i_2 →
    ∃ (a4 : Nat) (fs5 : List JVal) (x6 : Int32), this = some a4 ∧ job H a4 1 fs5 ∧ jn fs5 4 = some (jI x6) ∧
    /- X0_refuse -/ ∃ (o8 : JOut) (H7 : JHp), jok (jprog G) 251 [jI 0, jI 2, jI x6] H o8 H7 ∧
    ((o8 = (.inl none) ∧
      ∃ (a11 : Nat) (fs12 : List JVal) (r13 : Option Nat), this = some a11 ∧ job H7 a11 1 fs12 ∧ jn fs12 1 = some (jR r13) ∧
      ∃ (a14 : Nat) (fs15 : List JVal), r13 = some a14 ∧ job H7 a14 12 fs15 ∧ /- J4_size -/ ∃ (x17 : Int32) (H16 : JHp), jok (jprog G) 124 [jR r13] H7 (.inl (some (jI x17))) H16 ∧
      (¬ x17 = (16 : Int32) →
        jwp (jprog G) 260 Rt 38 [some (jR this), some (jI i_1), some (jI i_2), some (jI i_3), none, none, none, none, none] [jI 0] H16) ∧
      (¬ ¬ x17 = (16 : Int32) →
        jwp (jprog G) 260 Rt 38 [some (jR this), some (jI i_1), some (jI i_2), some (jI i_3), none, none, none, none, none] [jI 1] H16)) ∨
     (∃ (e9 : Nat), o8 = .inr e9 ∧ ∃ (fs10 : List JVal), H7.1 e9 = some (true, jO 5 fs10) ∧ Rt (.inr e9) H7))) ∧
  (¬ x3 ≤ i_2 →
    ∃ (a18 : Nat) (fs19 : List JVal) (x20 : Int32), this = some a18 ∧ job H a18 1 fs19 ∧ jn fs19 4 = some (jI x20) ∧
    /- X0_refuse -/ ∃ (o22 : JOut) (H21 : JHp), jok (jprog G) 251 [jI 1, jI 2, jI x20] H o22 H21 ∧
    ((o22 = (.inl none) ∧
      ∃ (a25 : Nat) (fs26 : List JVal) (r27 : Option Nat), this = some a25 ∧ job H21 a25 1 fs26 ∧ jn fs26 1 = some (jR r27) ∧
      ∃ (a28 : Nat) (fs29 : List JVal), r27 = some a28 ∧ job H21 a28 12 fs29 ∧ /- J4_size -/ ∃ (x31 : Int32) (H30 : JHp), jok (jprog G) 124 [jR r27] H21 (.inl (some (jI x31))) H30 ∧
      (¬ x31 = (16 : Int32) →
        jwp (jprog G) 260 Rt 38 [some (jR this), some (jI i_1), some (jI i_2), some (jI i_3), none, none, none, none, none] [jI 0] H30) ∧
      (¬ ¬ x31 = (16 : Int32) →
        jwp (jprog G) 260 Rt 38 [some (jR this), some (jI i_1), some (jI i_2), some (jI i_3), none, none, none, none, none] [jI 1] H30)) ∨
     (∃ (e23 : Nat), o22 = .inr e23 ∧ ∃ (fs24 : List JVal), H21.1 e23 = some (true, jO 5 fs24) ∧ Rt (.inr e23) H21)))) :
  jwp (jprog G) 260 Rt 0 [some (jR this), some (jI i_1), some (jI i_2), some (jI i_3), none, none, none, none, none] [] H :=
  junf_wp (jprog_nf G) (stop := jmem [38, 101]) (pX1_waits G) 4000 _ _ _ _ h
/-- UnheardBells$Machine waits(III)I @38 -/
theorem gX1_waits_38 (G : JG) {Rt : JRt} (r_0 : Option Nat) (i_1 : Int32) (i_2 : Int32) (i_3 : Int32) (q_4 : Option JVal) (q_5 : Option JVal) (q_6 : Option JVal) (q_7 : Option JVal) (q_8 : Option JVal) (si_0 : Int32) {H : JHp} (h :
  /- X0_refuse -/ ∃ (o2 : JOut) (H1 : JHp), jok (jprog G) 251 [jI si_0, jI 1, jI 16] H o2 H1 ∧
  ((o2 = (.inl none) ∧
    ∃ (a5 : Nat) (fs6 : List JVal) (x7 : Int32), r_0 = some a5 ∧ job (jnew H1 (jO 6 [jI 0, jI 0, jI 0, jI 0]) 4) a5 1 fs6 ∧ jn fs6 6 = some (jI x7) ∧
    ∃ a8 : Nat, (some H1.2.1) = some a8 ∧ /- X6_init -/ ∃ H9 : JHp, jok (jprog G) 259 [jR (some H1.2.1), jI i_1, jI i_2, jI i_3, jI x7] (jnew H1 (jO 6 [jI 0, jI 0, jI 0, jI 0]) 4) (.inl none) H9 ∧
    ∃ (a10 : Nat) (fs11 : List JVal) (r12 : Option Nat), r_0 = some a10 ∧ job H9 a10 1 fs11 ∧ jn fs11 1 = some (jR r12) ∧
    ∃ (a13 : Nat) (fs14 : List JVal), r12 = some a13 ∧ job H9 a13 12 fs14 ∧ /- J4_add -/ ∃ (x16 : Int32) (H15 : JHp), jok (jprog G) 46 [jR r12, jR (some H1.2.1)] H9 (.inl (some (jI x16))) H15 ∧
    ∃ (a17 : Nat) (fs18 : List JVal) (x19 : Int32), r_0 = some a17 ∧ job H15 a17 1 fs18 ∧ jn fs18 6 = some (jI x19) ∧
    ∃ (a20 : Nat) (fs21 : List JVal) (v22 : JVal), r_0 = some a20 ∧ H15.1 a20 = some (true, jO 1 fs21) ∧ jn fs21 6 = some v22 ∧
    ∃ a23 : Nat, (some (jup H15 a20 (jO 1 (jset fs21 6 (jI (x19 + (1 : Int32)))))).2.1) = some a23 ∧ /- X2_init -/ ∃ H24 : JHp, jok (jprog G) 3 [jR (some (jup H15 a20 (jO 1 (jset fs21 6 (jI (x19 + (1 : Int32)))))).2.1)] (jnew (jup H15 a20 (jO 1 (jset fs21 6 (jI (x19 + (1 : Int32)))))) (jO 2 []) 0) (.inl none) H24 ∧
    ∃ (a25 : Nat) (fs26 : List JVal) (r27 : Option Nat), r_0 = some a25 ∧ job H24 a25 1 fs26 ∧ jn fs26 1 = some (jR r27) ∧
    ∃ (a28 : Nat) (fs29 : List JVal), r27 = some a28 ∧ job H24 a28 12 fs29 ∧ /- J4_iterator -/ ∃ (r31 : Option Nat) (H30 : JHp), jok (jprog G) 27 [jR r27] H24 (.inl (some (jR r31))) H30 ∧
    jwp (jprog G) 260 Rt 101 [some (jR r_0), some (jI i_1), some (jI i_2), some (jI i_3), some (jR (some H1.2.1)), some (jI 0), some (jR (some (jup H15 a20 (jO 1 (jset fs21 6 (jI (x19 + (1 : Int32)))))).2.1)), some (jR r31), q_8] [] H30) ∨
   (∃ (e3 : Nat), o2 = .inr e3 ∧ ∃ (fs4 : List JVal), H1.1 e3 = some (true, jO 5 fs4) ∧ Rt (.inr e3) H1))) :
  jwp (jprog G) 260 Rt 38 [some (jR r_0), some (jI i_1), some (jI i_2), some (jI i_3), q_4, q_5, q_6, q_7, q_8] [jI si_0] H :=
  junf_wp (jprog_nf G) (stop := jmem [38, 101]) (pX1_waits G) 4000 _ _ _ _ h
/-- UnheardBells$Machine waits(III)I @101 -/
theorem gX1_waits_101 (G : JG) {Rt : JRt} (q_0 : Option JVal) (q_1 : Option JVal) (q_2 : Option JVal) (q_3 : Option JVal) (r_4 : Option Nat) (i_5 : Int32) (r_6 : Option Nat) (r_7 : Option Nat) (q_8 : Option JVal) {H : JHp} (h :
  ∃ (a1 : Nat) (fs2 : List JVal), r_7 = some a1 ∧ job H a1 20 fs2 ∧ /- J23_hasNext -/ ∃ (x4 : Int32) (H3 : JHp), jok (jprog G) 29 [jR r_7] H (.inl (some (jI x4))) H3 ∧
  (x4 = 0 →
    Rt (.inl (some (jI i_5))) H3) ∧
  (¬ x4 = 0 →
    ∃ (a5 : Nat) (fs6 : List JVal), r_7 = some a5 ∧ job H3 a5 20 fs6 ∧ /- J23_next -/ ∃ (r8 : Option Nat) (H7 : JHp), jok (jprog G) 34 [jR r_7] H3 (.inl (some (jR r8))) H7 ∧
    (∀ a, r8 = some a → ∃ fs, job H7 a 6 fs) ∧
    ∃ (a9 : Nat) (fs10 : List JVal), r_6 = some a9 ∧ job H7 a9 2 fs10 ∧ /- X2_compare_2 -/ ∃ (x12 : Int32) (H11 : JHp), jok (jprog G) 41 [jR r_6, jR r8, jR r_4] H7 (.inl (some (jI x12))) H11 ∧
    (0 ≤ x12 →
      jwp (jprog G) 260 Rt 101 [q_0, q_1, q_2, q_3, some (jR r_4), some (jI (i_5 + (0 : Int32))), some (jR r_6), some (jR r_7), some (jR r8)] [] H11) ∧
    (¬ 0 ≤ x12 →
      jwp (jprog G) 260 Rt 101 [q_0, q_1, q_2, q_3, some (jR r_4), some (jI (i_5 + (1 : Int32))), some (jR r_6), some (jR r_7), some (jR r8)] [] H11))) :
  jwp (jprog G) 260 Rt 101 [q_0, q_1, q_2, q_3, some (jR r_4), some (jI i_5), some (jR r_6), some (jR r_7), q_8] [] H :=
  junf_wp (jprog_nf G) (stop := jmem [38, 101]) (pX1_waits G) 4000 _ _ _ _ h
/-- UnheardBells$Machine waitingOf(I)I @0 -/
theorem gX1_waitingOf_0 (G : JG) {Rt : JRt} (this : Option Nat) (i_1 : Int32) {H : JHp} (h :
  ∃ (a1 : Nat) (fs2 : List JVal) (r3 : Option Nat), this = some a1 ∧ job H a1 1 fs2 ∧ jn fs2 1 = some (jR r3) ∧
  ∃ (a4 : Nat) (fs5 : List JVal), r3 = some a4 ∧ job H a4 12 fs5 ∧ /- J4_iterator -/ ∃ (r7 : Option Nat) (H6 : JHp), jok (jprog G) 27 [jR r3] H (.inl (some (jR r7))) H6 ∧
  jwp (jprog G) 261 Rt 10 [some (jR this), some (jI i_1), some (jI 0), some (jR r7), none] [] H6) :
  jwp (jprog G) 261 Rt 0 [some (jR this), some (jI i_1), none, none, none] [] H :=
  junf_wp (jprog_nf G) (stop := jmem [10]) (pX1_waitingOf G) 4000 _ _ _ _ h
/-- UnheardBells$Machine waitingOf(I)I @10 -/
theorem gX1_waitingOf_10 (G : JG) {Rt : JRt} (q_0 : Option JVal) (i_1 : Int32) (i_2 : Int32) (r_3 : Option Nat) (q_4 : Option JVal) {H : JHp} (h :
  ∃ (a1 : Nat) (fs2 : List JVal), r_3 = some a1 ∧ job H a1 20 fs2 ∧ /- J23_hasNext -/ ∃ (x4 : Int32) (H3 : JHp), jok (jprog G) 29 [jR r_3] H (.inl (some (jI x4))) H3 ∧
  (x4 = 0 →
    Rt (.inl (some (jI i_2))) H3) ∧
  (¬ x4 = 0 →
    ∃ (a5 : Nat) (fs6 : List JVal), r_3 = some a5 ∧ job H3 a5 20 fs6 ∧ /- J23_next -/ ∃ (r8 : Option Nat) (H7 : JHp), jok (jprog G) 34 [jR r_3] H3 (.inl (some (jR r8))) H7 ∧
    (∀ a, r8 = some a → ∃ fs, job H7 a 6 fs) ∧
    ∃ (a9 : Nat) (fs10 : List JVal) (x11 : Int32), r8 = some a9 ∧ job H7 a9 6 fs10 ∧ jn fs10 0 = some (jI x11) ∧
    (¬ x11 = i_1 →
      jwp (jprog G) 261 Rt 10 [q_0, some (jI i_1), some (jI (i_2 + (0 : Int32))), some (jR r_3), some (jR r8)] [] H7) ∧
    (¬ ¬ x11 = i_1 →
      jwp (jprog G) 261 Rt 10 [q_0, some (jI i_1), some (jI (i_2 + (1 : Int32))), some (jR r_3), some (jR r8)] [] H7))) :
  jwp (jprog G) 261 Rt 10 [q_0, some (jI i_1), some (jI i_2), some (jR r_3), q_4] [] H :=
  junf_wp (jprog_nf G) (stop := jmem [10]) (pX1_waitingOf G) 4000 _ _ _ _ h
/-- UnheardBells$Machine cancels(I)I @0 -/
theorem gX1_cancels_0 (G : JG) {Rt : JRt} (this : Option Nat) (i_1 : Int32) {H : JHp} (h :
  ∃ (a1 : Nat) (fs2 : List JVal), this = some a1 ∧ job H a1 1 fs2 ∧ /- X1_waitingOf -/ ∃ (x4 : Int32) (H3 : JHp), jok (jprog G) 261 [jR this, jI i_1] H (.inl (some (jI x4))) H3 ∧
  (¬ x4 = 0 →
    ∃ (a5 : Nat) (fs6 : List JVal) (r7 : Option Nat), this = some a5 ∧ job H3 a5 1 fs6 ∧ jn fs6 1 = some (jR r7) ∧
    ∃ (a8 : Nat) (fs9 : List JVal), r7 = some a8 ∧ job H3 a8 12 fs9 ∧ /- J4_size -/ ∃ (x11 : Int32) (H10 : JHp), jok (jprog G) 124 [jR r7] H3 (.inl (some (jI x11))) H10 ∧
    /- X0_refuse -/ ∃ (o13 : JOut) (H12 : JHp), jok (jprog G) 251 [jI 0, jI 6, jI x11] H10 o13 H12 ∧
    ((o13 = (.inl none) ∧
      ∃ (a16 : Nat) (fs17 : List JVal), this = some a16 ∧ job H12 a16 1 fs17 ∧ /- X1_inOrder -/ ∃ (r19 : Option Nat) (H18 : JHp), jok (jprog G) 151 [jR this] H12 (.inl (some (jR r19))) H18 ∧
      ∃ (a20 : Nat) (fs21 : List JVal) (r22 : Option Nat), this = some a20 ∧ job H18 a20 1 fs21 ∧ jn fs21 1 = some (jR r22) ∧
      ∃ (a23 : Nat) (fs24 : List JVal), r22 = some a23 ∧ job H18 a23 12 fs24 ∧ /- J4_clear -/ ∃ H25 : JHp, jok (jprog G) 262 [jR r22] H18 (.inl none) H25 ∧
      jwp (jprog G) 263 Rt 37 [some (jR this), some (jI i_1), some (jR r19), none] [] H25) ∨
     (∃ (e14 : Nat), o13 = .inr e14 ∧ ∃ (fs15 : List JVal), H12.1 e14 = some (true, jO 5 fs15) ∧ Rt (.inr e14) H12))) ∧
  (¬ ¬ x4 = 0 →
    ∃ (a26 : Nat) (fs27 : List JVal) (r28 : Option Nat), this = some a26 ∧ job H3 a26 1 fs27 ∧ jn fs27 1 = some (jR r28) ∧
    ∃ (a29 : Nat) (fs30 : List JVal), r28 = some a29 ∧ job H3 a29 12 fs30 ∧ /- J4_size -/ ∃ (x32 : Int32) (H31 : JHp), jok (jprog G) 124 [jR r28] H3 (.inl (some (jI x32))) H31 ∧
    /- X0_refuse -/ ∃ (o34 : JOut) (H33 : JHp), jok (jprog G) 251 [jI 1, jI 6, jI x32] H31 o34 H33 ∧
    ((o34 = (.inl none) ∧
      ∃ (a37 : Nat) (fs38 : List JVal), this = some a37 ∧ job H33 a37 1 fs38 ∧ /- X1_inOrder -/ ∃ (r40 : Option Nat) (H39 : JHp), jok (jprog G) 151 [jR this] H33 (.inl (some (jR r40))) H39 ∧
      ∃ (a41 : Nat) (fs42 : List JVal) (r43 : Option Nat), this = some a41 ∧ job H39 a41 1 fs42 ∧ jn fs42 1 = some (jR r43) ∧
      ∃ (a44 : Nat) (fs45 : List JVal), r43 = some a44 ∧ job H39 a44 12 fs45 ∧ /- J4_clear -/ ∃ H46 : JHp, jok (jprog G) 262 [jR r43] H39 (.inl none) H46 ∧
      jwp (jprog G) 263 Rt 37 [some (jR this), some (jI i_1), some (jR r40), none] [] H46) ∨
     (∃ (e35 : Nat), o34 = .inr e35 ∧ ∃ (fs36 : List JVal), H33.1 e35 = some (true, jO 5 fs36) ∧ Rt (.inr e35) H33)))) :
  jwp (jprog G) 263 Rt 0 [some (jR this), some (jI i_1), none, none] [] H :=
  junf_wp (jprog_nf G) (stop := jmem [37]) (pX1_cancels G) 4000 _ _ _ _ h
/-- UnheardBells$Machine cancels(I)I @37 -/
theorem gX1_cancels_37 (G : JG) {Rt : JRt} (r_0 : Option Nat) (i_1 : Int32) (r_2 : Option Nat) (q_3 : Option JVal) {H : JHp} (h :
  ∃ (a1 : Nat) (fs2 : List JVal), r_2 = some a1 ∧ job H a1 27 fs2 ∧ /- J0_isEmpty__J36 -/ ∃ (x4 : Int32) (H3 : JHp), jok (jprog G) 244 [jR r_2] H (.inl (some (jI x4))) H3 ∧
  (¬ x4 = 0 →
    ∃ (a5 : Nat) (fs6 : List JVal) (r7 : Option Nat), r_0 = some a5 ∧ job H3 a5 1 fs6 ∧ jn fs6 1 = some (jR r7) ∧
    ∃ (a8 : Nat) (fs9 : List JVal), r7 = some a8 ∧ job H3 a8 12 fs9 ∧ /- J4_size -/ ∃ (x11 : Int32) (H10 : JHp), jok (jprog G) 124 [jR r7] H3 (.inl (some (jI x11))) H10 ∧
    Rt (.inl (some (jI x11))) H10) ∧
  (¬ ¬ x4 = 0 →
    ∃ (a12 : Nat) (fs13 : List JVal), r_2 = some a12 ∧ job H3 a12 27 fs13 ∧ /- J36_removeFirst -/ ∃ (r15 : Option Nat) (H14 : JHp), jok (jprog G) 246 [jR r_2] H3 (.inl (some (jR r15))) H14 ∧
    (∀ a, r15 = some a → ∃ fs, job H14 a 6 fs) ∧
    ∃ (a16 : Nat) (fs17 : List JVal) (x18 : Int32), r15 = some a16 ∧ job H14 a16 6 fs17 ∧ jn fs17 0 = some (jI x18) ∧
    (¬ x18 = i_1 →
      ∃ (a19 : Nat) (fs20 : List JVal) (r21 : Option Nat), r_0 = some a19 ∧ job H14 a19 1 fs20 ∧ jn fs20 1 = some (jR r21) ∧
      ∃ (a22 : Nat) (fs23 : List JVal), r21 = some a22 ∧ job H14 a22 12 fs23 ∧ /- J4_add -/ ∃ (x25 : Int32) (H24 : JHp), jok (jprog G) 46 [jR r21, jR r15] H14 (.inl (some (jI x25))) H24 ∧
      jwp (jprog G) 263 Rt 37 [some (jR r_0), some (jI i_1), some (jR r_2), some (jR r15)] [] H24) ∧
    (¬ ¬ x18 = i_1 →
      ∃ (a26 : Nat) (fs27 : List JVal) (x28 : Int32), r_0 = some a26 ∧ job H14 a26 1 fs27 ∧ jn fs27 8 = some (jI x28) ∧
      ∃ (a29 : Nat) (fs30 : List JVal) (v31 : JVal), r_0 = some a29 ∧ H14.1 a29 = some (true, jO 1 fs30) ∧ jn fs30 8 = some v31 ∧
      jwp (jprog G) 263 Rt 37 [some (jR r_0), some (jI i_1), some (jR r_2), some (jR r15)] [] (jup H14 a29 (jO 1 (jset fs30 8 (jI (x28 + (1 : Int32))))))))) :
  jwp (jprog G) 263 Rt 37 [some (jR r_0), some (jI i_1), some (jR r_2), q_3] [] H :=
  junf_wp (jprog_nf G) (stop := jmem [37]) (pX1_cancels G) 4000 _ _ _ _ h
/-- UnheardBells$Command isOfRope(LUnheardBells$Machine;)Z @0 -/
theorem gX10_isOfRope_0 (G : JG) {Rt : JRt} (this : Option Nat) (r_1 : Option Nat) {H : JHp} (h :
  ∃ (a1 : Nat) (fs2 : List JVal) (x3 : Int32), this = some a1 ∧ job H a1 10 fs2 ∧ jn fs2 1 = some (jI x3) ∧
  ∃ (a4 : Nat) (fs5 : List JVal), r_1 = some a4 ∧ job H a4 1 fs5 ∧ /- X1_isRope -/ ∃ (x7 : Int32) (H6 : JHp), jok (jprog G) 220 [jR r_1, jI x3] H (.inl (some (jI x7))) H6 ∧
  (¬ x7 = 0 →
    ∃ (a8 : Nat) (fs9 : List JVal) (x10 : Int32), this = some a8 ∧ job H6 a8 10 fs9 ∧ jn fs9 0 = some (jI x10) ∧
    (x10 = 99 → ∃ (a11 : Nat) (fs12 : List JVal) (x13 : Int32), this = some a11 ∧ job H6 a11 10 fs12 ∧ jn fs12 1 = some (jI x13) ∧
      ∃ (a14 : Nat) (fs15 : List JVal), r_1 = some a14 ∧ job H6 a14 1 fs15 ∧ /- X1_cancels -/ ∃ (o18 : JOut) (H16 : JHp), jok (jprog G) 263 [jR r_1, jI x13] H6 o18 H16 ∧
      ((∃ x17 : Int32, o18 = (.inl (some (jI x17))) ∧
        (x17 < 0 →
          jbool (0 : Int32) ∧ Rt (.inl (some (jI 0))) H16) ∧
        (¬ x17 < 0 →
          jbool (1 : Int32) ∧ Rt (.inl (some (jI 1))) H16)) ∨
       (∃ (e19 : Nat), o18 = .inr e19 ∧ ∃ (fs20 : List JVal), H16.1 e19 = some (true, jO 5 fs20) ∧ Rt (.inr e19) H16))) ∧
    (¬ x10 = 99 → (x10 = 112 → ∃ (a21 : Nat) (fs22 : List JVal) (x23 : Int32), this = some a21 ∧ job H6 a21 10 fs22 ∧ jn fs22 2 = some (jI x23) ∧
      /- X0_isHour -/ ∃ (x25 : Int32) (H24 : JHp), jok (jprog G) 257 [jI x23] H6 (.inl (some (jI x25))) H24 ∧
      (x25 = 0 →
        jbool (0 : Int32) ∧ Rt (.inl (some (jI 0))) H24) ∧
      (¬ x25 = 0 →
        ∃ (a26 : Nat) (fs27 : List JVal) (x28 : Int32), this = some a26 ∧ job H24 a26 10 fs27 ∧ jn fs27 3 = some (jI x28) ∧
        /- X0_isStrength -/ ∃ (x30 : Int32) (H29 : JHp), jok (jprog G) 258 [jI x28] H24 (.inl (some (jI x30))) H29 ∧
        (x30 = 0 →
          jbool (0 : Int32) ∧ Rt (.inl (some (jI 0))) H29) ∧
        (¬ x30 = 0 →
          ∃ (a31 : Nat) (fs32 : List JVal) (x33 : Int32), this = some a31 ∧ job H29 a31 10 fs32 ∧ jn fs32 1 = some (jI x33) ∧
          ∃ (a34 : Nat) (fs35 : List JVal) (x36 : Int32), this = some a34 ∧ job H29 a34 10 fs35 ∧ jn fs35 2 = some (jI x36) ∧
          ∃ (a37 : Nat) (fs38 : List JVal) (x39 : Int32), this = some a37 ∧ job H29 a37 10 fs38 ∧ jn fs38 3 = some (jI x39) ∧
          ∃ (a40 : Nat) (fs41 : List JVal), r_1 = some a40 ∧ job H29 a40 1 fs41 ∧ /- X1_waits -/ ∃ (o44 : JOut) (H42 : JHp), jok (jprog G) 260 [jR r_1, jI x33, jI x36, jI x39] H29 o44 H42 ∧
          ((∃ x43 : Int32, o44 = (.inl (some (jI x43))) ∧
            (x43 < 0 →
              jbool (0 : Int32) ∧ Rt (.inl (some (jI 0))) H42) ∧
            (¬ x43 < 0 →
              jbool (1 : Int32) ∧ Rt (.inl (some (jI 1))) H42)) ∨
           (∃ (e45 : Nat), o44 = .inr e45 ∧ ∃ (fs46 : List JVal), H42.1 e45 = some (true, jO 5 fs46) ∧ Rt (.inr e45) H42))))) ∧
    (¬ x10 = 112 → (x10 = 115 → ∃ (a47 : Nat) (fs48 : List JVal) (x49 : Int32), this = some a47 ∧ job H6 a47 10 fs48 ∧ jn fs48 1 = some (jI x49) ∧
      ∃ (a50 : Nat) (fs51 : List JVal) (x52 : Int32), this = some a50 ∧ job H6 a50 10 fs51 ∧ jn fs51 2 = some (jI x52) ∧
      (¬ x52 = (1 : Int32) →
        ∃ (a53 : Nat) (fs54 : List JVal), r_1 = some a53 ∧ job H6 a53 1 fs54 ∧ /- X1_puts -/ ∃ (o57 : JOut) (H55 : JHp), jok (jprog G) 256 [jR r_1, jI x49, jI 0] H6 o57 H55 ∧
        ((∃ x56 : Int32, o57 = (.inl (some (jI x56))) ∧
          (x56 < 0 →
            jbool (0 : Int32) ∧ Rt (.inl (some (jI 0))) H55) ∧
          (¬ x56 < 0 →
            jbool (1 : Int32) ∧ Rt (.inl (some (jI 1))) H55)) ∨
         (∃ (e58 : Nat), o57 = .inr e58 ∧ ∃ (fs59 : List JVal), H55.1 e58 = some (true, jO 5 fs59) ∧ Rt (.inr e58) H55))) ∧
      (¬ ¬ x52 = (1 : Int32) →
        ∃ (a60 : Nat) (fs61 : List JVal), r_1 = some a60 ∧ job H6 a60 1 fs61 ∧ /- X1_puts -/ ∃ (o64 : JOut) (H62 : JHp), jok (jprog G) 256 [jR r_1, jI x49, jI 1] H6 o64 H62 ∧
        ((∃ x63 : Int32, o64 = (.inl (some (jI x63))) ∧
          (x63 < 0 →
            jbool (0 : Int32) ∧ Rt (.inl (some (jI 0))) H62) ∧
          (¬ x63 < 0 →
            jbool (1 : Int32) ∧ Rt (.inl (some (jI 1))) H62)) ∨
         (∃ (e65 : Nat), o64 = .inr e65 ∧ ∃ (fs66 : List JVal), H62.1 e65 = some (true, jO 5 fs66) ∧ Rt (.inr e65) H62)))) ∧
    (¬ x10 = 115 → (x10 = 118 → ∃ (a67 : Nat) (fs68 : List JVal) (x69 : Int32), this = some a67 ∧ job H6 a67 10 fs68 ∧ jn fs68 2 = some (jI x69) ∧
      /- X0_isParish -/ ∃ (x71 : Int32) (H70 : JHp), jok (jprog G) 253 [jI x69] H6 (.inl (some (jI x71))) H70 ∧
      (x71 = 0 →
        jbool (0 : Int32) ∧ Rt (.inl (some (jI 0))) H70) ∧
      (¬ x71 = 0 →
        ∃ (a72 : Nat) (fs73 : List JVal) (x74 : Int32), this = some a72 ∧ job H70 a72 10 fs73 ∧ jn fs73 1 = some (jI x74) ∧
        ∃ (a75 : Nat) (fs76 : List JVal) (x77 : Int32), this = some a75 ∧ job H70 a75 10 fs76 ∧ jn fs76 2 = some (jI x77) ∧
        ∃ (a78 : Nat) (fs79 : List JVal), r_1 = some a78 ∧ job H70 a78 1 fs79 ∧ /- X1_moves -/ ∃ (o82 : JOut) (H80 : JHp), jok (jprog G) 254 [jR r_1, jI x74, jI x77] H70 o82 H80 ∧
        ((∃ x81 : Int32, o82 = (.inl (some (jI x81))) ∧
          (x81 < 0 →
            jbool (0 : Int32) ∧ Rt (.inl (some (jI 0))) H80) ∧
          (¬ x81 < 0 →
            jbool (1 : Int32) ∧ Rt (.inl (some (jI 1))) H80)) ∨
         (∃ (e83 : Nat), o82 = .inr e83 ∧ ∃ (fs84 : List JVal), H80.1 e83 = some (true, jO 5 fs84) ∧ Rt (.inr e83) H80)))) ∧
    (¬ x10 = 118 → ∃ (a85 : Nat) (fs86 : List JVal) (x87 : Int32), this = some a85 ∧ job H6 a85 10 fs86 ∧ jn fs86 2 = some (jI x87) ∧
      /- X0_isMuch -/ ∃ (x89 : Int32) (H88 : JHp), jok (jprog G) 247 [jI x87] H6 (.inl (some (jI x89))) H88 ∧
      (x89 = 0 →
        jbool (0 : Int32) ∧ Rt (.inl (some (jI 0))) H88) ∧
      (¬ x89 = 0 →
        ∃ (a90 : Nat) (fs91 : List JVal) (x92 : Int32), this = some a90 ∧ job H88 a90 10 fs91 ∧ jn fs91 1 = some (jI x92) ∧
        ∃ (a93 : Nat) (fs94 : List JVal) (x95 : Int32), this = some a93 ∧ job H88 a93 10 fs94 ∧ jn fs94 2 = some (jI x95) ∧
        ∃ (a96 : Nat) (fs97 : List JVal), r_1 = some a96 ∧ job H88 a96 1 fs97 ∧ /- X1_oils -/ ∃ (o100 : JOut) (H98 : JHp), jok (jprog G) 252 [jR r_1, jI x92, jI x95] H88 o100 H98 ∧
        ((∃ x99 : Int32, o100 = (.inl (some (jI x99))) ∧
          (x99 < 0 →
            jbool (0 : Int32) ∧ Rt (.inl (some (jI 0))) H98) ∧
          (¬ x99 < 0 →
            jbool (1 : Int32) ∧ Rt (.inl (some (jI 1))) H98)) ∨
         (∃ (e101 : Nat), o100 = .inr e101 ∧ ∃ (fs102 : List JVal), H98.1 e101 = some (true, jO 5 fs102) ∧ Rt (.inr e101) H98)))))))) ∧
  (¬ ¬ x7 = 0 →
    jbool (0 : Int32) ∧ Rt (.inl (some (jI 0))) H6)) :
  jwp (jprog G) 264 Rt 0 [some (jR this), some (jR r_1)] [] H :=
  junf_wp (jprog_nf G) (stop := jmem []) (pX10_isOfRope G) 4000 _ _ _ _ h
/-- UnheardBells$Machine brings(I)I @0 -/
theorem gX1_brings_0 (G : JG) {Rt : JRt} (this : Option Nat) (i_1 : Int32) {H : JHp} (h :
  ∃ (a1 : Nat) (fs2 : List JVal) (r3 : Option Nat), this = some a1 ∧ job H a1 1 fs2 ∧ jn fs2 0 = some (jR r3) ∧
  ∃ (a4 : Nat) (fs5 : List JVal), r3 = some a4 ∧ job H a4 11 fs5 ∧ /- J2_size -/ ∃ (x7 : Int32) (H6 : JHp), jok (jprog G) 104 [jR r3] H (.inl (some (jI x7))) H6 ∧
  (¬ x7 = (12 : Int32) →
    jwp (jprog G) 265 Rt 17 [some (jR this), some (jI i_1)] [jI 0] H6) ∧
  (¬ ¬ x7 = (12 : Int32) →
    jwp (jprog G) 265 Rt 17 [some (jR this), some (jI i_1)] [jI 1] H6)) :
  jwp (jprog G) 265 Rt 0 [some (jR this), some (jI i_1)] [] H :=
  junf_wp (jprog_nf G) (stop := jmem [17]) (pX1_brings G) 4000 _ _ _ _ h
/-- UnheardBells$Machine brings(I)I @17 -/
theorem gX1_brings_17 (G : JG) {Rt : JRt} (r_0 : Option Nat) (i_1 : Int32) (si_0 : Int32) {H : JHp} (h :
  /- X0_refuse -/ ∃ (o2 : JOut) (H1 : JHp), jok (jprog G) 251 [jI si_0, jI 1, jI 12] H o2 H1 ∧
  ((o2 = (.inl none) ∧
    ∃ (a5 : Nat) (fs6 : List JVal) (r7 : Option Nat), r_0 = some a5 ∧ job H1 a5 1 fs6 ∧ jn fs6 0 = some (jR r7) ∧
    ∃ a8 : Nat, (some H1.2.1) = some a8 ∧ /- X4_init -/ ∃ H9 : JHp, jok (jprog G) 22 [jR (some H1.2.1), jI i_1] (jnew H1 (jO 4 [jI 0, jI 0, jI 0, jI 0, jI 0, jI 0]) 6) (.inl none) H9 ∧
    ∃ (a10 : Nat) (fs11 : List JVal), r7 = some a10 ∧ job H9 a10 11 fs11 ∧ /- J2_add -/ ∃ (x13 : Int32) (H12 : JHp), jok (jprog G) 25 [jR r7, jR (some H1.2.1)] H9 (.inl (some (jI x13))) H12 ∧
    ∃ (a14 : Nat) (fs15 : List JVal) (r16 : Option Nat), r_0 = some a14 ∧ job H12 a14 1 fs15 ∧ jn fs15 0 = some (jR r16) ∧
    ∃ (a17 : Nat) (fs18 : List JVal), r16 = some a17 ∧ job H12 a17 11 fs18 ∧ /- J2_size -/ ∃ (x20 : Int32) (H19 : JHp), jok (jprog G) 104 [jR r16] H12 (.inl (some (jI x20))) H19 ∧
    Rt (.inl (some (jI (x20 - (1 : Int32))))) H19) ∨
   (∃ (e3 : Nat), o2 = .inr e3 ∧ ∃ (fs4 : List JVal), H1.1 e3 = some (true, jO 5 fs4) ∧ Rt (.inr e3) H1))) :
  jwp (jprog G) 265 Rt 17 [some (jR r_0), some (jI i_1)] [jI si_0] H :=
  junf_wp (jprog_nf G) (stop := jmem [17]) (pX1_brings G) 4000 _ _ _ _ h
/-- UnheardBells$Machine ringsNext()I @0 -/
theorem gX1_ringsNext_0 (G : JG) {Rt : JRt} (this : Option Nat) {H : JHp} (h :
  ∃ (a1 : Nat) (fs2 : List JVal) (r3 : Option Nat), this = some a1 ∧ job H a1 1 fs2 ∧ jn fs2 1 = some (jR r3) ∧
  ∃ (a4 : Nat) (fs5 : List JVal), r3 = some a4 ∧ job H a4 12 fs5 ∧ /- J0_isEmpty__J4 -/ ∃ (x7 : Int32) (H6 : JHp), jok (jprog G) 126 [jR r3] H (.inl (some (jI x7))) H6 ∧
  ∃ (a8 : Nat) (fs9 : List JVal) (x10 : Int32), this = some a8 ∧ job H6 a8 1 fs9 ∧ jn fs9 7 = some (jI x10) ∧
  /- X0_refuse -/ ∃ (o12 : JOut) (H11 : JHp), jok (jprog G) 251 [jI x7, jI 3, jI x10] H6 o12 H11 ∧
  ((o12 = (.inl none) ∧
    ∃ (a15 : Nat) (fs16 : List JVal), this = some a15 ∧ job H11 a15 1 fs16 ∧ /- X1_rings -/ ∃ (x18 : Int32) (H17 : JHp), jok (jprog G) 142 [jR this] H11 (.inl (some (jI x18))) H17 ∧
    Rt (.inl (some (jI x18))) H17) ∨
   (∃ (e13 : Nat), o12 = .inr e13 ∧ ∃ (fs14 : List JVal), H11.1 e13 = some (true, jO 5 fs14) ∧ Rt (.inr e13) H11))) :
  jwp (jprog G) 266 Rt 0 [some (jR this)] [] H :=
  junf_wp (jprog_nf G) (stop := jmem []) (pX1_ringsNext G) 4000 _ _ _ _ h
/-- UnheardBells$Machine ringsHour()I @0 -/
theorem gX1_ringsHour_0 (G : JG) {Rt : JRt} (this : Option Nat) {H : JHp} (h :
  ∃ (a1 : Nat) (fs2 : List JVal) (r3 : Option Nat), this = some a1 ∧ job H a1 1 fs2 ∧ jn fs2 1 = some (jR r3) ∧
  ∃ (a4 : Nat) (fs5 : List JVal), r3 = some a4 ∧ job H a4 12 fs5 ∧ /- J0_isEmpty__J4 -/ ∃ (x7 : Int32) (H6 : JHp), jok (jprog G) 126 [jR r3] H (.inl (some (jI x7))) H6 ∧
  ∃ (a8 : Nat) (fs9 : List JVal) (x10 : Int32), this = some a8 ∧ job H6 a8 1 fs9 ∧ jn fs9 7 = some (jI x10) ∧
  /- X0_refuse -/ ∃ (o12 : JOut) (H11 : JHp), jok (jprog G) 251 [jI x7, jI 3, jI x10] H6 o12 H11 ∧
  ((o12 = (.inl none) ∧
    ∃ (a15 : Nat) (fs16 : List JVal) (r17 : Option Nat), this = some a15 ∧ job H11 a15 1 fs16 ∧ jn fs16 1 = some (jR r17) ∧
    ∃ (a18 : Nat) (fs19 : List JVal), r17 = some a18 ∧ job H11 a18 12 fs19 ∧ /- J4_peek -/ ∃ (r21 : Option Nat) (H20 : JHp), jok (jprog G) 267 [jR r17] H11 (.inl (some (jR r21))) H20 ∧
    (∀ a, r21 = some a → ∃ fs, job H20 a 6 fs) ∧
    ∃ (a22 : Nat) (fs23 : List JVal) (x24 : Int32), r21 = some a22 ∧ job H20 a22 6 fs23 ∧ jn fs23 1 = some (jI x24) ∧
    jwp (jprog G) 268 Rt 31 [some (jR this), some (jI x24), some (jI 0)] [] H20) ∨
   (∃ (e13 : Nat), o12 = .inr e13 ∧ ∃ (fs14 : List JVal), H11.1 e13 = some (true, jO 5 fs14) ∧ Rt (.inr e13) H11))) :
  jwp (jprog G) 268 Rt 0 [some (jR this), none, none] [] H :=
  junf_wp (jprog_nf G) (stop := jmem [31]) (pX1_ringsHour G) 4000 _ _ _ _ h
/-- UnheardBells$Machine ringsHour()I @31 -/
theorem gX1_ringsHour_31 (G : JG) {Rt : JRt} (r_0 : Option Nat) (i_1 : Int32) (i_2 : Int32) {H : JHp} (h :
  ∃ (a1 : Nat) (fs2 : List JVal) (r3 : Option Nat), r_0 = some a1 ∧ job H a1 1 fs2 ∧ jn fs2 1 = some (jR r3) ∧
  ∃ (a4 : Nat) (fs5 : List JVal), r3 = some a4 ∧ job H a4 12 fs5 ∧ /- J0_isEmpty__J4 -/ ∃ (x7 : Int32) (H6 : JHp), jok (jprog G) 126 [jR r3] H (.inl (some (jI x7))) H6 ∧
  (¬ x7 = 0 →
    Rt (.inl (some (jI i_2))) H6) ∧
  (¬ ¬ x7 = 0 →
    ∃ (a8 : Nat) (fs9 : List JVal) (r10 : Option Nat), r_0 = some a8 ∧ job H6 a8 1 fs9 ∧ jn fs9 1 = some (jR r10) ∧
    ∃ (a11 : Nat) (fs12 : List JVal), r10 = some a11 ∧ job H6 a11 12 fs12 ∧ /- J4_peek -/ ∃ (r14 : Option Nat) (H13 : JHp), jok (jprog G) 267 [jR r10] H6 (.inl (some (jR r14))) H13 ∧
    (∀ a, r14 = some a → ∃ fs, job H13 a 6 fs) ∧
    ∃ (a15 : Nat) (fs16 : List JVal) (x17 : Int32), r14 = some a15 ∧ job H13 a15 6 fs16 ∧ jn fs16 1 = some (jI x17) ∧
    (¬ x17 = i_1 →
      Rt (.inl (some (jI i_2))) H13) ∧
    (¬ ¬ x17 = i_1 →
      ∃ (a18 : Nat) (fs19 : List JVal), r_0 = some a18 ∧ job H13 a18 1 fs19 ∧ /- X1_rings -/ ∃ (x21 : Int32) (H20 : JHp), jok (jprog G) 142 [jR r_0] H13 (.inl (some (jI x21))) H20 ∧
      (¬ x21 = (1 : Int32) →
        jwp (jprog G) 268 Rt 31 [some (jR r_0), some (jI i_1), some (jI (i_2 + (0 : Int32)))] [] H20) ∧
      (¬ ¬ x21 = (1 : Int32) →
        jwp (jprog G) 268 Rt 31 [some (jR r_0), some (jI i_1), some (jI (i_2 + (1 : Int32)))] [] H20)))) :
  jwp (jprog G) 268 Rt 31 [some (jR r_0), some (jI i_1), some (jI i_2)] [] H :=
  junf_wp (jprog_nf G) (stop := jmem [31]) (pX1_ringsHour G) 4000 _ _ _ _ h
/-- UnheardBells$Machine answeredToday()Ljava/util/BitSet; @0 -/
theorem gX1_answeredToday_0 (G : JG) {Rt : JRt} (this : Option Nat) {H : JHp} (h :
  ∃ a1 : Nat, (some H.2.1) = some a1 ∧ /- J32_init -/ ∃ H2 : JHp, jok (jprog G) 64 [jR (some H.2.1)] (jnew H (jO 24 [jR none, jI 0, jI 0]) 3) (.inl none) H2 ∧
  ∃ (a3 : Nat) (fs4 : List JVal) (r5 : Option Nat), this = some a3 ∧ job H2 a3 1 fs4 ∧ jn fs4 2 = some (jR r5) ∧
  ∃ (a6 : Nat) (fs7 : List JVal), r5 = some a6 ∧ job H2 a6 13 fs7 ∧ /- J6_values -/ ∃ (r9 : Option Nat) (H8 : JHp), jok (jprog G) 271 [jR r5] H2 (.inl (some (jR r9))) H8 ∧
  ∃ (a10 : Nat) (fs11 : List JVal), r9 = some a10 ∧ job H8 a10 29 fs11 ∧ /- J38_iterator -/ ∃ (r13 : Option Nat) (H12 : JHp), jok (jprog G) 274 [jR r9] H8 (.inl (some (jR r13))) H12 ∧
  jwp (jprog G) 278 Rt 21 [some (jR this), some (jR (some H.2.1)), some (jR r13), none] [] H12) :
  jwp (jprog G) 278 Rt 0 [some (jR this), none, none, none] [] H :=
  junf_wp (jprog_nf G) (stop := jmem [21]) (pX1_answeredToday G) 4000 _ _ _ _ h
/-- UnheardBells$Machine answeredToday()Ljava/util/BitSet; @21 -/
theorem gX1_answeredToday_21 (G : JG) {Rt : JRt} (q_0 : Option JVal) (r_1 : Option Nat) (r_2 : Option Nat) (q_3 : Option JVal) {H : JHp} (h :
  ∃ (a1 : Nat) (fs2 : List JVal), r_2 = some a1 ∧ job H a1 32 fs2 ∧ /- J30_hasNext__J42 -/ ∃ (x4 : Int32) (H3 : JHp), jok (jprog G) 275 [jR r_2] H (.inl (some (jI x4))) H3 ∧
  (x4 = 0 →
    Rt (.inl (some (jR r_1))) H3) ∧
  (¬ x4 = 0 →
    ∃ (a5 : Nat) (fs6 : List JVal), r_2 = some a5 ∧ job H3 a5 32 fs6 ∧ /- J42_next -/ ∃ (r8 : Option Nat) (H7 : JHp), jok (jprog G) 277 [jR r_2] H3 (.inl (some (jR r8))) H7 ∧
    (∀ a, r8 = some a → ∃ fs, job H7 a 24 fs) ∧
    ∃ (a9 : Nat) (fs10 : List JVal), r_1 = some a9 ∧ job H7 a9 24 fs10 ∧ /- J32_or -/ ∃ H11 : JHp, jok (jprog G) 76 [jR r_1, jR r8] H7 (.inl none) H11 ∧
    jwp (jprog G) 278 Rt 21 [q_0, some (jR r_1), some (jR r_2), some (jR r8)] [] H11)) :
  jwp (jprog G) 278 Rt 21 [q_0, some (jR r_1), some (jR r_2), q_3] [] H :=
  junf_wp (jprog_nf G) (stop := jmem [21]) (pX1_answeredToday G) 4000 _ _ _ _ h
/-- UnheardBells$Rope rests()V @0 -/
theorem gX4_rests_0 (G : JG) {Rt : JRt} (this : Option Nat) {H : JHp} (h :
  ∃ (a1 : Nat) (fs2 : List JVal) (x3 : Int32), this = some a1 ∧ job H a1 4 fs2 ∧ jn fs2 2 = some (jI x3) ∧
  /- J20_max -/ ∃ (x5 : Int32) (H4 : JHp), jok (jprog G) 35 [jI 0, jI (x3 - (1 : Int32))] H (.inl (some (jI x5))) H4 ∧
  ∃ (a6 : Nat) (fs7 : List JVal) (v8 : JVal), this = some a6 ∧ H4.1 a6 = some (true, jO 4 fs7) ∧ jn fs7 2 = some v8 ∧
  Rt (.inl none) (jup H4 a6 (jO 4 (jset fs7 2 (jI x5))))) :
  jwp (jprog G) 279 Rt 0 [some (jR this)] [] H :=
  junf_wp (jprog_nf G) (stop := jmem []) (pX4_rests G) 4000 _ _ _ _ h
/-- UnheardBells$Machine ends()I @0 -/
theorem gX1_ends_0 (G : JG) {Rt : JRt} (this : Option Nat) {H : JHp} (h :
  ∃ (a1 : Nat) (fs2 : List JVal) (r3 : Option Nat), this = some a1 ∧ job H a1 1 fs2 ∧ jn fs2 1 = some (jR r3) ∧
  ∃ (a4 : Nat) (fs5 : List JVal), r3 = some a4 ∧ job H a4 12 fs5 ∧ /- J4_size -/ ∃ (x7 : Int32) (H6 : JHp), jok (jprog G) 124 [jR r3] H (.inl (some (jI x7))) H6 ∧
  jwp (jprog G) 281 Rt 8 [some (jR this), some (jI x7), none, none] [] H6) :
  jwp (jprog G) 281 Rt 0 [some (jR this), none, none, none] [] H :=
  junf_wp (jprog_nf G) (stop := jmem [8, 60]) (pX1_ends G) 4000 _ _ _ _ h
/-- UnheardBells$Machine ends()I @8 -/
theorem gX1_ends_8 (G : JG) {Rt : JRt} (r_0 : Option Nat) (i_1 : Int32) (q_2 : Option JVal) (q_3 : Option JVal) {H : JHp} (h :
  ∃ (a1 : Nat) (fs2 : List JVal) (r3 : Option Nat), r_0 = some a1 ∧ job H a1 1 fs2 ∧ jn fs2 1 = some (jR r3) ∧
  ∃ (a4 : Nat) (fs5 : List JVal), r3 = some a4 ∧ job H a4 12 fs5 ∧ /- J0_isEmpty__J4 -/ ∃ (x7 : Int32) (H6 : JHp), jok (jprog G) 126 [jR r3] H (.inl (some (jI x7))) H6 ∧
  (¬ x7 = 0 →
    ∃ (a8 : Nat) (fs9 : List JVal), r_0 = some a8 ∧ job H6 a8 1 fs9 ∧ /- X1_answeredToday -/ ∃ (r11 : Option Nat) (H10 : JHp), jok (jprog G) 278 [jR r_0] H6 (.inl (some (jR r11))) H10 ∧
    jwp (jprog G) 281 Rt 60 [some (jR r_0), some (jI i_1), some (jR r11), some (jI 0)] [] H10) ∧
  (¬ ¬ x7 = 0 →
    ∃ (a12 : Nat) (fs13 : List JVal) (r14 : Option Nat), r_0 = some a12 ∧ job H6 a12 1 fs13 ∧ jn fs13 0 = some (jR r14) ∧
    ∃ (a15 : Nat) (fs16 : List JVal) (r17 : Option Nat), r_0 = some a15 ∧ job H6 a15 1 fs16 ∧ jn fs16 1 = some (jR r17) ∧
    ∃ (a18 : Nat) (fs19 : List JVal), r17 = some a18 ∧ job H6 a18 12 fs19 ∧ /- J4_poll -/ ∃ (r21 : Option Nat) (H20 : JHp), jok (jprog G) 128 [jR r17] H6 (.inl (some (jR r21))) H20 ∧
    (∀ a, r21 = some a → ∃ fs, job H20 a 6 fs) ∧
    ∃ (a22 : Nat) (fs23 : List JVal) (x24 : Int32), r21 = some a22 ∧ job H20 a22 6 fs23 ∧ jn fs23 0 = some (jI x24) ∧
    ∃ (a25 : Nat) (fs26 : List JVal), r14 = some a25 ∧ job H20 a25 11 fs26 ∧ /- J2_get -/ ∃ (r28 : Option Nat) (H27 : JHp), jok (jprog G) 132 [jR r14, jI x24] H20 (.inl (some (jR r28))) H27 ∧
    (∀ a, r28 = some a → ∃ fs, job H27 a 4 fs) ∧
    ∃ (a29 : Nat) (fs30 : List JVal) (x31 : Int32), r28 = some a29 ∧ job H27 a29 4 fs30 ∧ jn fs30 4 = some (jI x31) ∧
    ∃ (a32 : Nat) (fs33 : List JVal) (v34 : JVal), r28 = some a32 ∧ H27.1 a32 = some (true, jO 4 fs33) ∧ jn fs33 4 = some v34 ∧
    jwp (jprog G) 281 Rt 8 [some (jR r_0), some (jI i_1), q_2, q_3] [] (jup H27 a32 (jO 4 (jset fs33 4 (jI (x31 + (1 : Int32)))))))) :
  jwp (jprog G) 281 Rt 8 [some (jR r_0), some (jI i_1), q_2, q_3] [] H :=
  junf_wp (jprog_nf G) (stop := jmem [8, 60]) (pX1_ends G) 4000 _ _ _ _ h
/-- UnheardBells$Machine ends()I @60 -/
theorem gX1_ends_60 (G : JG) {Rt : JRt} (r_0 : Option Nat) (i_1 : Int32) (r_2 : Option Nat) (i_3 : Int32) {H : JHp} (h :
  ∃ (a1 : Nat) (fs2 : List JVal) (r3 : Option Nat), r_0 = some a1 ∧ job H a1 1 fs2 ∧ jn fs2 0 = some (jR r3) ∧
  ∃ (a4 : Nat) (fs5 : List JVal), r3 = some a4 ∧ job H a4 11 fs5 ∧ /- J2_size -/ ∃ (x7 : Int32) (H6 : JHp), jok (jprog G) 104 [jR r3] H (.inl (some (jI x7))) H6 ∧
  (x7 ≤ i_3 →
    ∃ (a8 : Nat) (fs9 : List JVal) (r10 : Option Nat), r_0 = some a8 ∧ job H6 a8 1 fs9 ∧ jn fs9 2 = some (jR r10) ∧
    ∃ (a11 : Nat) (fs12 : List JVal), r10 = some a11 ∧ job H6 a11 13 fs12 ∧ /- J6_clear -/ ∃ H13 : JHp, jok (jprog G) 280 [jR r10] H6 (.inl none) H13 ∧
    ∃ (a14 : Nat) (fs15 : List JVal) (v16 : JVal), r_0 = some a14 ∧ H13.1 a14 = some (true, jO 1 fs15) ∧ jn fs15 4 = some v16 ∧
    ∃ (a17 : Nat) (fs18 : List JVal) (x19 : Int32), r_0 = some a17 ∧ job (jup H13 a14 (jO 1 (jset fs15 4 (jI 0)))) a17 1 fs18 ∧ jn fs18 5 = some (jI x19) ∧
    ∃ (a20 : Nat) (fs21 : List JVal) (v22 : JVal), r_0 = some a20 ∧ (jup H13 a14 (jO 1 (jset fs15 4 (jI 0)))).1 a20 = some (true, jO 1 fs21) ∧ jn fs21 5 = some v22 ∧
    Rt (.inl (some (jI i_1))) (jup (jup H13 a14 (jO 1 (jset fs15 4 (jI 0)))) a20 (jO 1 (jset fs21 5 (jI (x19 + (1 : Int32))))))) ∧
  (¬ x7 ≤ i_3 →
    ∃ (a23 : Nat) (fs24 : List JVal), r_2 = some a23 ∧ job H6 a23 24 fs24 ∧ /- J32_get -/ ∃ (x26 : Int32) (H25 : JHp), jok (jprog G) 134 [jR r_2, jI i_3] H6 (.inl (some (jI x26))) H25 ∧
    (¬ x26 = 0 →
      jwp (jprog G) 281 Rt 60 [some (jR r_0), some (jI i_1), some (jR r_2), some (jI (i_3 + 1))] [] H25) ∧
    (¬ ¬ x26 = 0 →
      ∃ (a27 : Nat) (fs28 : List JVal) (r29 : Option Nat), r_0 = some a27 ∧ job H25 a27 1 fs28 ∧ jn fs28 0 = some (jR r29) ∧
      ∃ (a30 : Nat) (fs31 : List JVal), r29 = some a30 ∧ job H25 a30 11 fs31 ∧ /- J2_get -/ ∃ (r33 : Option Nat) (H32 : JHp), jok (jprog G) 132 [jR r29, jI i_3] H25 (.inl (some (jR r33))) H32 ∧
      (∀ a, r33 = some a → ∃ fs, job H32 a 4 fs) ∧
      ∃ (a34 : Nat) (fs35 : List JVal), r33 = some a34 ∧ job H32 a34 4 fs35 ∧ /- X4_rests -/ ∃ H36 : JHp, jok (jprog G) 279 [jR r33] H32 (.inl none) H36 ∧
      jwp (jprog G) 281 Rt 60 [some (jR r_0), some (jI i_1), some (jR r_2), some (jI (i_3 + 1))] [] H36))) :
  jwp (jprog G) 281 Rt 60 [some (jR r_0), some (jI i_1), some (jR r_2), some (jI i_3)] [] H :=
  junf_wp (jprog_nf G) (stop := jmem [8, 60]) (pX1_ends G) 4000 _ _ _ _ h
/-- UnheardBells$Command isDone(LUnheardBells$Machine;)Z @0 -/
theorem gX10_isDone_0 (G : JG) {Rt : JRt} (this : Option Nat) (r_1 : Option Nat) {H : JHp} (h :
  ∃ (a1 : Nat) (fs2 : List JVal) (x3 : Int32), this = some a1 ∧ job H a1 10 fs2 ∧ jn fs2 0 = some (jI x3) ∧
  (x3 = 101 → ∃ (a4 : Nat) (fs5 : List JVal), r_1 = some a4 ∧ job H a4 1 fs5 ∧ /- X1_ends -/ ∃ (x7 : Int32) (H6 : JHp), jok (jprog G) 281 [jR r_1] H (.inl (some (jI x7))) H6 ∧
    (x7 < 0 →
      jbool (0 : Int32) ∧ Rt (.inl (some (jI 0))) H6) ∧
    (¬ x7 < 0 →
      jbool (1 : Int32) ∧ Rt (.inl (some (jI 1))) H6)) ∧
  (¬ x3 = 101 → (x3 = 104 → ∃ (a8 : Nat) (fs9 : List JVal), r_1 = some a8 ∧ job H a8 1 fs9 ∧ /- X1_ringsHour -/ ∃ (o12 : JOut) (H10 : JHp), jok (jprog G) 268 [jR r_1] H o12 H10 ∧
    ((∃ x11 : Int32, o12 = (.inl (some (jI x11))) ∧
      (x11 < 0 →
        jbool (0 : Int32) ∧ Rt (.inl (some (jI 0))) H10) ∧
      (¬ x11 < 0 →
        jbool (1 : Int32) ∧ Rt (.inl (some (jI 1))) H10)) ∨
     (∃ (e13 : Nat), o12 = .inr e13 ∧ ∃ (fs14 : List JVal), H10.1 e13 = some (true, jO 5 fs14) ∧ Rt (.inr e13) H10))) ∧
  (¬ x3 = 104 → (x3 = 110 → ∃ (a15 : Nat) (fs16 : List JVal), r_1 = some a15 ∧ job H a15 1 fs16 ∧ /- X1_ringsNext -/ ∃ (o19 : JOut) (H17 : JHp), jok (jprog G) 266 [jR r_1] H o19 H17 ∧
    ((∃ x18 : Int32, o19 = (.inl (some (jI x18))) ∧
      (x18 < 0 →
        jbool (0 : Int32) ∧ Rt (.inl (some (jI 0))) H17) ∧
      (¬ x18 < 0 →
        jbool (1 : Int32) ∧ Rt (.inl (some (jI 1))) H17)) ∨
     (∃ (e20 : Nat), o19 = .inr e20 ∧ ∃ (fs21 : List JVal), H17.1 e20 = some (true, jO 5 fs21) ∧ Rt (.inr e20) H17))) ∧
  (¬ x3 = 110 → (x3 = 114 → ∃ (a22 : Nat) (fs23 : List JVal) (x24 : Int32), this = some a22 ∧ job H a22 10 fs23 ∧ jn fs23 1 = some (jI x24) ∧
    /- X0_isParish -/ ∃ (x26 : Int32) (H25 : JHp), jok (jprog G) 253 [jI x24] H (.inl (some (jI x26))) H25 ∧
    (x26 = 0 →
      jbool (0 : Int32) ∧ Rt (.inl (some (jI 0))) H25) ∧
    (¬ x26 = 0 →
      ∃ (a27 : Nat) (fs28 : List JVal) (x29 : Int32), this = some a27 ∧ job H25 a27 10 fs28 ∧ jn fs28 1 = some (jI x29) ∧
      ∃ (a30 : Nat) (fs31 : List JVal), r_1 = some a30 ∧ job H25 a30 1 fs31 ∧ /- X1_brings -/ ∃ (o34 : JOut) (H32 : JHp), jok (jprog G) 265 [jR r_1, jI x29] H25 o34 H32 ∧
      ((∃ x33 : Int32, o34 = (.inl (some (jI x33))) ∧
        (x33 < 0 →
          jbool (0 : Int32) ∧ Rt (.inl (some (jI 0))) H32) ∧
        (¬ x33 < 0 →
          jbool (1 : Int32) ∧ Rt (.inl (some (jI 1))) H32)) ∨
       (∃ (e35 : Nat), o34 = .inr e35 ∧ ∃ (fs36 : List JVal), H32.1 e35 = some (true, jO 5 fs36) ∧ Rt (.inr e35) H32)))) ∧
  (¬ x3 = 114 → ∃ (a37 : Nat) (fs38 : List JVal), this = some a37 ∧ job H a37 10 fs38 ∧ /- X10_isOfRope -/ ∃ (o41 : JOut) (H39 : JHp), jok (jprog G) 264 [jR this, jR r_1] H o41 H39 ∧
    ((∃ x40 : Int32, o41 = (.inl (some (jI x40))) ∧
      jbool x40 ∧ Rt (.inl (some (jI x40))) H39) ∨
     (∃ (e42 : Nat), o41 = .inr e42 ∧ ∃ (fs43 : List JVal), H39.1 e42 = some (true, jO 5 fs43) ∧ Rt (.inr e42) H39))))))) :
  jwp (jprog G) 282 Rt 0 [some (jR this), some (jR r_1)] [] H :=
  junf_wp (jprog_nf G) (stop := jmem []) (pX10_isDone G) 4000 _ _ _ _ h
/-- UnheardBells$Command isCarriedOut(LUnheardBells$Machine;)Z @0 -/
theorem gX10_isCarriedOut_0 (G : JG) {Rt : JRt} (this : Option Nat) (r_1 : Option Nat) {H : JHp} (h :
  ∃ (a1 : Nat) (fs2 : List JVal), this = some a1 ∧ job H a1 10 fs2 ∧ /- X10_isDone -/ ∃ (o5 : JOut) (H3 : JHp), jok (jprog G) 282 [jR this, jR r_1] H o5 H3 ∧
  ((∃ x4 : Int32, o5 = (.inl (some (jI x4))) ∧
    jbool x4 ∧ Rt (.inl (some (jI x4))) H3) ∨
   (∃ (e6 : Nat), o5 = .inr e6 ∧ ∃ (fs7 : List JVal), H3.1 e6 = some (true, jO 5 fs7) ∧ jbool (0 : Int32) ∧ Rt (.inl (some (jI 0))) H3))) :
  jwp (jprog G) 283 Rt 0 [some (jR this), some (jR r_1), none] [] H :=
  junf_wp (jprog_nf G) (stop := jmem []) (pX10_isCarriedOut G) 4000 _ _ _ _ h
/-- UnheardBells refused(LUnheardBells$Refused;)I @0 -/
theorem gX0_refused_0 (G : JG) {Rt : JRt} (this : Option Nat) (r_1 : Option Nat) {H : JHp} (h :
  ∃ (a1 : Nat) (fs2 : List JVal) (x3 : Int32), r_1 = some a1 ∧ job H a1 5 fs2 ∧ jn fs2 6 = some (jI x3) ∧
  ∃ (a4 : Nat) (fs5 : List JVal) (v6 : JVal), this = some a4 ∧ H.1 a4 = some (true, jO 0 fs5) ∧ jn fs5 4 = some v6 ∧
  ∃ (a7 : Nat) (fs8 : List JVal) (x9 : Int32), r_1 = some a7 ∧ job (jup H a4 (jO 0 (jset fs5 4 (jI x3)))) a7 5 fs8 ∧ jn fs8 7 = some (jI x9) ∧
  ∃ (a10 : Nat) (fs11 : List JVal) (v12 : JVal), this = some a10 ∧ (jup H a4 (jO 0 (jset fs5 4 (jI x3)))).1 a10 = some (true, jO 0 fs11) ∧ jn fs11 5 = some v12 ∧
  Rt (.inl (some (jI (-1014)))) (jup (jup H a4 (jO 0 (jset fs5 4 (jI x3)))) a10 (jO 0 (jset fs11 5 (jI x9))))) :
  jwp (jprog G) 284 Rt 0 [some (jR this), some (jR r_1)] [] H :=
  junf_wp (jprog_nf G) (stop := jmem []) (pX0_refused G) 4000 _ _ _ _ h
/-- UnheardBells changed(LUnheardBells$Machine;I)I @0 -/
theorem gX0_changed_0 (G : JG) {Rt : JRt} (this : Option Nat) (r_1 : Option Nat) (i_2 : Int32) {H : JHp} (h :
  ∃ (a1 : Nat) (fs2 : List JVal) (r3 : Option Nat), this = some a1 ∧ job H a1 0 fs2 ∧ jn fs2 3 = some (jR r3) ∧
  ∃ (a4 : Nat) (fs5 : List JVal), r3 = some a4 ∧ job H a4 14 fs5 ∧ /- J7_addLast -/ ∃ H6 : JHp, jok (jprog G) 100 [jR r3, jR r_1] H (.inl none) H6 ∧
  ∃ (a7 : Nat) (fs8 : List JVal) (r9 : Option Nat), this = some a7 ∧ job H6 a7 0 fs8 ∧ jn fs8 3 = some (jR r9) ∧
  ∃ (a10 : Nat) (fs11 : List JVal), r9 = some a10 ∧ job H6 a10 14 fs11 ∧ /- J7_size -/ ∃ (x13 : Int32) (H12 : JHp), jok (jprog G) 92 [jR r9] H6 (.inl (some (jI x13))) H12 ∧
  (x13 ≤ (8 : Int32) →
    Rt (.inl (some (jI i_2))) H12) ∧
  (¬ x13 ≤ (8 : Int32) →
    ∃ (a14 : Nat) (fs15 : List JVal) (r16 : Option Nat), this = some a14 ∧ job H12 a14 0 fs15 ∧ jn fs15 3 = some (jR r16) ∧
    ∃ (a17 : Nat) (fs18 : List JVal), r16 = some a17 ∧ job H12 a17 14 fs18 ∧ /- J7_removeFirst -/ ∃ (r20 : Option Nat) (H19 : JHp), jok (jprog G) 290 [jR r16] H12 (.inl (some (jR r20))) H19 ∧
    Rt (.inl (some (jI i_2))) H19)) :
  jwp (jprog G) 291 Rt 0 [some (jR this), some (jR r_1), some (jI i_2)] [] H :=
  junf_wp (jprog_nf G) (stop := jmem []) (pX0_changed G) 4000 _ _ _ _ h
/-- UnheardBells run()I @0 -/
theorem gX0_run_0 (G : JG) {Rt : JRt} (this : Option Nat) {H : JHp} (h :
  ∃ a1 : Nat, (some H.2.1) = some a1 ∧ /- X8_init -/ ∃ H2 : JHp, jok (jprog G) 226 [jR (some H.2.1), jR this] (jnew H (jO 8 [jI 0, jR none]) 2) (.inl none) H2 ∧
  ∃ (a3 : Nat) (fs4 : List JVal), (some H.2.1) = some a3 ∧ job H2 a3 8 fs4 ∧ /- X8_commands -/ ∃ (o7 : JOut) (H5 : JHp), jok (jprog G) 242 [jR (some H.2.1)] H2 o7 H5 ∧
  ((∃ r6 : Option Nat, o7 = (.inl (some (jR r6))) ∧
    ∃ (a10 : Nat) (fs11 : List JVal) (r12 : Option Nat), this = some a10 ∧ job H5 a10 0 fs11 ∧ jn fs11 1 = some (jR r12) ∧
    ∃ (a13 : Nat) (fs14 : List JVal), r12 = some a13 ∧ job H5 a13 1 fs14 ∧ /- X1_copy -/ ∃ (r16 : Option Nat) (H15 : JHp), jok (jprog G) 101 [jR r12] H5 (.inl (some (jR r16))) H15 ∧
    jwp (jprog G) 292 Rt 22 [some (jR this), some (jR r6), some (jR r16), some (jI 0), none, none, none] [] H15) ∨
   (∃ (e8 : Nat), o7 = .inr e8 ∧ ∃ (fs9 : List JVal), H5.1 e8 = some (true, jO 9 fs9) ∧ ∃ (a17 : Nat) (fs18 : List JVal) (x19 : Int32), (some e8) = some a17 ∧ job H5 a17 9 fs18 ∧ jn fs18 6 = some (jI x19) ∧
    ∃ (a20 : Nat) (fs21 : List JVal) (r22 : Option Nat), this = some a20 ∧ job H5 a20 0 fs21 ∧ jn fs21 6 = some (jR r22) ∧
    ∃ (a23 : Nat) (fs24 : List JVal), r22 = some a23 ∧ job H5 a23 15 fs24 ∧ /- J9_setLength -/ ∃ H25 : JHp, jok (jprog G) 289 [jR r22, jI 0] H5 (.inl none) H25 ∧
    Rt (.inl (some (jI ((-2000 : Int32) - x19)))) H25))) :
  jwp (jprog G) 292 Rt 0 [some (jR this), none, none, none, none, none, none] [] H :=
  junf_wp (jprog_nf G) (stop := jmem [22, 48]) (pX0_run G) 4000 _ _ _ _ h
/-- UnheardBells run()I @22 -/
theorem gX0_run_22 (G : JG) {Rt : JRt} (r_0 : Option Nat) (r_1 : Option Nat) (r_2 : Option Nat) (i_3 : Int32) (q_4 : Option JVal) (q_5 : Option JVal) (q_6 : Option JVal) {H : JHp} (h :
  ∃ (a1 : Nat) (fs2 : List JVal), r_1 = some a1 ∧ job H a1 27 fs2 ∧ /- J0_isEmpty__J36 -/ ∃ (x4 : Int32) (H3 : JHp), jok (jprog G) 244 [jR r_1] H (.inl (some (jI x4))) H3 ∧
  (¬ x4 = 0 →
    ∃ (a5 : Nat) (fs6 : List JVal) (r7 : Option Nat), r_0 = some a5 ∧ job H3 a5 0 fs6 ∧ jn fs6 1 = some (jR r7) ∧
    ∃ (a8 : Nat) (fs9 : List JVal) (v10 : JVal), r_0 = some a8 ∧ H3.1 a8 = some (true, jO 0 fs9) ∧ jn fs9 1 = some v10 ∧
    ∃ (a11 : Nat) (fs12 : List JVal), r_0 = some a11 ∧ job (jup H3 a8 (jO 0 (jset fs9 1 (jR r_2)))) a11 0 fs12 ∧ /- X0_changed -/ ∃ (x14 : Int32) (H13 : JHp), jok (jprog G) 291 [jR r_0, jR r7, jI i_3] (jup H3 a8 (jO 0 (jset fs9 1 (jR r_2)))) (.inl (some (jI x14))) H13 ∧
    ∃ (a15 : Nat) (fs16 : List JVal) (r17 : Option Nat), r_0 = some a15 ∧ job H13 a15 0 fs16 ∧ jn fs16 6 = some (jR r17) ∧
    ∃ (a18 : Nat) (fs19 : List JVal), r17 = some a18 ∧ job H13 a18 15 fs19 ∧ /- J9_setLength -/ ∃ H20 : JHp, jok (jprog G) 289 [jR r17, jI 0] H13 (.inl none) H20 ∧
    Rt (.inl (some (jI x14))) H20) ∧
  (¬ ¬ x4 = 0 →
    ∃ (a21 : Nat) (fs22 : List JVal), r_1 = some a21 ∧ job H3 a21 27 fs22 ∧ /- J36_removeFirst -/ ∃ (r24 : Option Nat) (H23 : JHp), jok (jprog G) 246 [jR r_1] H3 (.inl (some (jR r24))) H23 ∧
    (∀ a, r24 = some a → ∃ fs, job H23 a 10 fs) ∧
    ∃ (a25 : Nat) (fs26 : List JVal), r24 = some a25 ∧ job H23 a25 10 fs26 ∧ /- X10_isCarriedOut -/ ∃ (x28 : Int32) (H27 : JHp), jok (jprog G) 283 [jR r24, jR r_2] H23 (.inl (some (jI x28))) H27 ∧
    (¬ x28 = 0 →
      jwp (jprog G) 292 Rt 48 [some (jR r_0), some (jR r_1), some (jR r_2), some (jI i_3), q_4, q_5, q_6] [jI 0] H27) ∧
    (¬ ¬ x28 = 0 →
      jwp (jprog G) 292 Rt 48 [some (jR r_0), some (jR r_1), some (jR r_2), some (jI i_3), q_4, q_5, q_6] [jI 1] H27))) :
  jwp (jprog G) 292 Rt 22 [some (jR r_0), some (jR r_1), some (jR r_2), some (jI i_3), q_4, q_5, q_6] [] H :=
  junf_wp (jprog_nf G) (stop := jmem [22, 48]) (pX0_run G) 4000 _ _ _ _ h
/-- UnheardBells run()I @48 -/
theorem gX0_run_48 (G : JG) {Rt : JRt} (r_0 : Option Nat) (r_1 : Option Nat) (r_2 : Option Nat) (i_3 : Int32) (q_4 : Option JVal) (q_5 : Option JVal) (q_6 : Option JVal) (si_0 : Int32) {H : JHp} (h :
  /- X0_refuse -/ ∃ (o2 : JOut) (H1 : JHp), jok (jprog G) 251 [jI si_0, jI 7, jI i_3] H o2 H1 ∧
  ((o2 = (.inl none) ∧
    jwp (jprog G) 292 Rt 22 [some (jR r_0), some (jR r_1), some (jR r_2), some (jI (i_3 + 1)), q_4, q_5, q_6] [] H1) ∨
   (∃ (e3 : Nat), o2 = .inr e3 ∧ ∃ (fs4 : List JVal), H1.1 e3 = some (true, jO 5 fs4) ∧ ∃ (a5 : Nat) (fs6 : List JVal), r_0 = some a5 ∧ job H1 a5 0 fs6 ∧ /- X0_refused -/ ∃ (x8 : Int32) (H7 : JHp), jok (jprog G) 284 [jR r_0, jR (some e3)] H1 (.inl (some (jI x8))) H7 ∧
    ∃ (a9 : Nat) (fs10 : List JVal) (r11 : Option Nat), r_0 = some a9 ∧ job H7 a9 0 fs10 ∧ jn fs10 6 = some (jR r11) ∧
    ∃ (a12 : Nat) (fs13 : List JVal), r11 = some a12 ∧ job H7 a12 15 fs13 ∧ /- J9_setLength -/ ∃ H14 : JHp, jok (jprog G) 289 [jR r11, jI 0] H7 (.inl none) H14 ∧
    Rt (.inl (some (jI x8))) H14))) :
  jwp (jprog G) 292 Rt 48 [some (jR r_0), some (jR r_1), some (jR r_2), some (jI i_3), q_4, q_5, q_6] [jI si_0] H :=
  junf_wp (jprog_nf G) (stop := jmem [22, 48]) (pX0_run G) 4000 _ _ _ _ h
/-- UnheardBells append(I)I @0 -/
theorem gX0_append_0 (G : JG) {Rt : JRt} (this : Option Nat) (i_1 : Int32) {H : JHp} (h :
  /- X0_isIn -/ ∃ (x2 : Int32) (H1 : JHp), jok (jprog G) 184 [jI i_1, jI 32, jI 126] H (.inl (some (jI x2))) H1 ∧
  (¬ x2 = 0 →
    ∃ (a3 : Nat) (fs4 : List JVal) (r5 : Option Nat), this = some a3 ∧ job H1 a3 0 fs4 ∧ jn fs4 6 = some (jR r5) ∧
    ∃ (a6 : Nat) (fs7 : List JVal), r5 = some a6 ∧ job H1 a6 15 fs7 ∧ /- J9_length -/ ∃ (x9 : Int32) (H8 : JHp), jok (jprog G) 176 [jR r5] H1 (.inl (some (jI x9))) H8 ∧
    (¬ x9 = (60 : Int32) →
      ∃ (a10 : Nat) (fs11 : List JVal) (r12 : Option Nat), this = some a10 ∧ job H8 a10 0 fs11 ∧ jn fs11 6 = some (jR r12) ∧
      ∃ (a13 : Nat) (fs14 : List JVal), r12 = some a13 ∧ job H8 a13 15 fs14 ∧ /- J9_append_2 -/ ∃ (r16 : Option Nat) (H15 : JHp), jok (jprog G) 206 [jR r12, jI (((i_1).toUInt32 % 65536).toInt32)] H8 (.inl (some (jR r16))) H15 ∧
      ∃ (a17 : Nat) (fs18 : List JVal) (r19 : Option Nat), this = some a17 ∧ job H15 a17 0 fs18 ∧ jn fs18 6 = some (jR r19) ∧
      ∃ (a20 : Nat) (fs21 : List JVal), r19 = some a20 ∧ job H15 a20 15 fs21 ∧ /- J9_length -/ ∃ (x23 : Int32) (H22 : JHp), jok (jprog G) 176 [jR r19] H15 (.inl (some (jI x23))) H22 ∧
      Rt (.inl (some (jI x23))) H22) ∧
    (¬ ¬ x9 = (60 : Int32) →
      Rt (.inl (some (jI (-1013)))) H8)) ∧
  (¬ ¬ x2 = 0 →
    Rt (.inl (some (jI (-1012)))) H1)) :
  jwp (jprog G) 324 Rt 0 [some (jR this), some (jI i_1)] [] H :=
  junf_wp (jprog_nf G) (stop := jmem []) (pX0_append G) 4000 _ _ _ _ h
/-- UnheardBells$Machine answersOf(I)I @0 -/
theorem gX1_answersOf_0 (G : JG) {Rt : JRt} (this : Option Nat) (i_1 : Int32) {H : JHp} (h :
  ∃ (a1 : Nat) (fs2 : List JVal) (r3 : Option Nat), this = some a1 ∧ job H a1 1 fs2 ∧ jn fs2 0 = some (jR r3) ∧
  ∃ (a4 : Nat) (fs5 : List JVal), r3 = some a4 ∧ job H a4 11 fs5 ∧ /- J2_iterator -/ ∃ (r7 : Option Nat) (H6 : JHp), jok (jprog G) 18 [jR r3] H (.inl (some (jR r7))) H6 ∧
  jwp (jprog G) 326 Rt 10 [some (jR this), some (jI i_1), some (jI 0), some (jR r7), none] [] H6) :
  jwp (jprog G) 326 Rt 0 [some (jR this), some (jI i_1), none, none, none] [] H :=
  junf_wp (jprog_nf G) (stop := jmem [10]) (pX1_answersOf G) 4000 _ _ _ _ h
/-- UnheardBells$Machine answersOf(I)I @10 -/
theorem gX1_answersOf_10 (G : JG) {Rt : JRt} (q_0 : Option JVal) (i_1 : Int32) (i_2 : Int32) (r_3 : Option Nat) (q_4 : Option JVal) {H : JHp} (h :
  ∃ (a1 : Nat) (fs2 : List JVal), r_3 = some a1 ∧ job H a1 17 fs2 ∧ /- J12_hasNext -/ ∃ (x4 : Int32) (H3 : JHp), jok (jprog G) 19 [jR r_3] H (.inl (some (jI x4))) H3 ∧
  (x4 = 0 →
    Rt (.inl (some (jI i_2))) H3) ∧
  (¬ x4 = 0 →
    ∃ (a5 : Nat) (fs6 : List JVal), r_3 = some a5 ∧ job H3 a5 17 fs6 ∧ /- J12_next -/ ∃ (r8 : Option Nat) (H7 : JHp), jok (jprog G) 21 [jR r_3] H3 (.inl (some (jR r8))) H7 ∧
    (∀ a, r8 = some a → ∃ fs, job H7 a 4 fs) ∧
    ∃ (a9 : Nat) (fs10 : List JVal) (x11 : Int32), r8 = some a9 ∧ job H7 a9 4 fs10 ∧ jn fs10 0 = some (jI x11) ∧
    (¬ x11 = i_1 →
      jwp (jprog G) 326 Rt 10 [q_0, some (jI i_1), some (jI (i_2 + (0 : Int32))), some (jR r_3), some (jR r8)] [] H7) ∧
    (¬ ¬ x11 = i_1 →
      ∃ (a12 : Nat) (fs13 : List JVal) (x14 : Int32), r8 = some a12 ∧ job H7 a12 4 fs13 ∧ jn fs13 3 = some (jI x14) ∧
      jwp (jprog G) 326 Rt 10 [q_0, some (jI i_1), some (jI (i_2 + x14)), some (jR r_3), some (jR r8)] [] H7))) :
  jwp (jprog G) 326 Rt 10 [q_0, some (jI i_1), some (jI i_2), some (jR r_3), q_4] [] H :=
  junf_wp (jprog_nf G) (stop := jmem [10]) (pX1_answersOf G) 4000 _ _ _ _ h
/-- UnheardBells$Machine isAhead(II)Z @0 -/
theorem gX1_isAhead_0 (G : JG) {Rt : JRt} (this : Option Nat) (i_1 : Int32) (i_2 : Int32) {H : JHp} (h :
  ∃ (a1 : Nat) (fs2 : List JVal), this = some a1 ∧ job H a1 1 fs2 ∧ /- X1_answersOf -/ ∃ (x4 : Int32) (H3 : JHp), jok (jprog G) 326 [jR this, jI i_1] H (.inl (some (jI x4))) H3 ∧
  ∃ (a5 : Nat) (fs6 : List JVal), this = some a5 ∧ job H3 a5 1 fs6 ∧ /- X1_answersOf -/ ∃ (x8 : Int32) (H7 : JHp), jok (jprog G) 326 [jR this, jI i_2] H3 (.inl (some (jI x8))) H7 ∧
  ((x4 - x8) = 0 →
    ∃ (a9 : Nat) (fs10 : List JVal), this = some a9 ∧ job H7 a9 1 fs10 ∧ /- X1_ropesOf -/ ∃ (x12 : Int32) (H11 : JHp), jok (jprog G) 165 [jR this, jI i_1] H7 (.inl (some (jI x12))) H11 ∧
    ∃ (a13 : Nat) (fs14 : List JVal), this = some a13 ∧ job H11 a13 1 fs14 ∧ /- X1_ropesOf -/ ∃ (x16 : Int32) (H15 : JHp), jok (jprog G) 165 [jR this, jI i_2] H11 (.inl (some (jI x16))) H15 ∧
    ((x12 - x16) = 0 →
      (i_2 ≤ i_1 →
        jbool (0 : Int32) ∧ Rt (.inl (some (jI 0))) H15) ∧
      (¬ i_2 ≤ i_1 →
        jbool (1 : Int32) ∧ Rt (.inl (some (jI 1))) H15)) ∧
    (¬ (x12 - x16) = 0 →
      ((x12 - x16) ≤ 0 →
        jbool (0 : Int32) ∧ Rt (.inl (some (jI 0))) H15) ∧
      (¬ (x12 - x16) ≤ 0 →
        jbool (1 : Int32) ∧ Rt (.inl (some (jI 1))) H15))) ∧
  (¬ (x4 - x8) = 0 →
    ((x4 - x8) ≤ 0 →
      jbool (0 : Int32) ∧ Rt (.inl (some (jI 0))) H7) ∧
    (¬ (x4 - x8) ≤ 0 →
      jbool (1 : Int32) ∧ Rt (.inl (some (jI 1))) H7))) :
  jwp (jprog G) 327 Rt 0 [some (jR this), some (jI i_1), some (jI i_2), none, none] [] H :=
  junf_wp (jprog_nf G) (stop := jmem []) (pX1_isAhead G) 4000 _ _ _ _ h
/-- UnheardBells$Machine ranked(I)I @0 -/
theorem gX1_ranked_0 (G : JG) {Rt : JRt} (this : Option Nat) (i_1 : Int32) {H : JHp} (h :
  jwp (jprog G) 328 Rt 2 [some (jR this), some (jI i_1), some (jI 0), none, none] [] H) :
  jwp (jprog G) 328 Rt 0 [some (jR this), some (jI i_1), none, none, none] [] H :=
  junf_wp (jprog_nf G) (stop := jmem [2, 12]) (pX1_ranked G) 4000 _ _ _ _ h
/-- UnheardBells$Machine ranked(I)I @2 -/
theorem gX1_ranked_2 (G : JG) {Rt : JRt} (r_0 : Option Nat) (i_1 : Int32) (i_2 : Int32) (q_3 : Option JVal) (q_4 : Option JVal) {H : JHp} (h :
  ((4 : Int32) ≤ i_2 →
    Rt (.inl (some (jI (-1011)))) H) ∧
  (¬ (4 : Int32) ≤ i_2 →
    jwp (jprog G) 328 Rt 12 [some (jR r_0), some (jI i_1), some (jI i_2), some (jI 0), some (jI 0)] [] H)) :
  jwp (jprog G) 328 Rt 2 [some (jR r_0), some (jI i_1), some (jI i_2), q_3, q_4] [] H :=
  junf_wp (jprog_nf G) (stop := jmem [2, 12]) (pX1_ranked G) 4000 _ _ _ _ h
/-- UnheardBells$Machine ranked(I)I @12 -/
theorem gX1_ranked_12 (G : JG) {Rt : JRt} (r_0 : Option Nat) (i_1 : Int32) (i_2 : Int32) (i_3 : Int32) (i_4 : Int32) {H : JHp} (h :
  ((4 : Int32) ≤ i_4 →
    (¬ i_3 = i_1 →
      jwp (jprog G) 328 Rt 2 [some (jR r_0), some (jI i_1), some (jI (i_2 + 1)), some (jI i_3), some (jI i_4)] [] H) ∧
    (¬ ¬ i_3 = i_1 →
      Rt (.inl (some (jI i_2))) H)) ∧
  (¬ (4 : Int32) ≤ i_4 →
    (i_4 = i_2 →
      jwp (jprog G) 328 Rt 12 [some (jR r_0), some (jI i_1), some (jI i_2), some (jI (i_3 + (0 : Int32))), some (jI (i_4 + 1))] [] H) ∧
    (¬ i_4 = i_2 →
      ∃ (a1 : Nat) (fs2 : List JVal), r_0 = some a1 ∧ job H a1 1 fs2 ∧ /- X1_isAhead -/ ∃ (x4 : Int32) (H3 : JHp), jok (jprog G) 327 [jR r_0, jI i_4, jI i_2] H (.inl (some (jI x4))) H3 ∧
      (x4 = 0 →
        jwp (jprog G) 328 Rt 12 [some (jR r_0), some (jI i_1), some (jI i_2), some (jI (i_3 + (0 : Int32))), some (jI (i_4 + 1))] [] H3) ∧
      (¬ x4 = 0 →
        jwp (jprog G) 328 Rt 12 [some (jR r_0), some (jI i_1), some (jI i_2), some (jI (i_3 + (1 : Int32))), some (jI (i_4 + 1))] [] H3)))) :
  jwp (jprog G) 328 Rt 12 [some (jR r_0), some (jI i_1), some (jI i_2), some (jI i_3), some (jI i_4)] [] H :=
  junf_wp (jprog_nf G) (stop := jmem [2, 12]) (pX1_ranked G) 4000 _ _ _ _ h
/-- UnheardBells ranked(I)I @0 -/
theorem gX0_ranked_0 (G : JG) {Rt : JRt} (this : Option Nat) (i_1 : Int32) {H : JHp} (h :
  ∃ (a1 : Nat) (fs2 : List JVal) (r3 : Option Nat), this = some a1 ∧ job H a1 0 fs2 ∧ jn fs2 1 = some (jR r3) ∧
  ∃ (a4 : Nat) (fs5 : List JVal), r3 = some a4 ∧ job H a4 1 fs5 ∧ /- X1_ranked -/ ∃ (x7 : Int32) (H6 : JHp), jok (jprog G) 328 [jR r3, jI i_1] H (.inl (some (jI x7))) H6 ∧
  Rt (.inl (some (jI x7))) H6) :
  jwp (jprog G) 329 Rt 0 [some (jR this), some (jI i_1)] [] H :=
  junf_wp (jprog_nf G) (stop := jmem []) (pX0_ranked G) 4000 _ _ _ _ h
/-- UnheardBells$Machine isRustier(II)Z @0 -/
theorem gX1_isRustier_0 (G : JG) {Rt : JRt} (this : Option Nat) (i_1 : Int32) (i_2 : Int32) {H : JHp} (h :
  ∃ (a1 : Nat) (fs2 : List JVal) (r3 : Option Nat), this = some a1 ∧ job H a1 1 fs2 ∧ jn fs2 0 = some (jR r3) ∧
  ∃ (a4 : Nat) (fs5 : List JVal), r3 = some a4 ∧ job H a4 11 fs5 ∧ /- J2_get -/ ∃ (r7 : Option Nat) (H6 : JHp), jok (jprog G) 132 [jR r3, jI i_1] H (.inl (some (jR r7))) H6 ∧
  (∀ a, r7 = some a → ∃ fs, job H6 a 4 fs) ∧
  ∃ (a8 : Nat) (fs9 : List JVal) (x10 : Int32), r7 = some a8 ∧ job H6 a8 4 fs9 ∧ jn fs9 2 = some (jI x10) ∧
  ∃ (a11 : Nat) (fs12 : List JVal) (r13 : Option Nat), this = some a11 ∧ job H6 a11 1 fs12 ∧ jn fs12 0 = some (jR r13) ∧
  ∃ (a14 : Nat) (fs15 : List JVal), r13 = some a14 ∧ job H6 a14 11 fs15 ∧ /- J2_get -/ ∃ (r17 : Option Nat) (H16 : JHp), jok (jprog G) 132 [jR r13, jI i_2] H6 (.inl (some (jR r17))) H16 ∧
  (∀ a, r17 = some a → ∃ fs, job H16 a 4 fs) ∧
  ∃ (a18 : Nat) (fs19 : List JVal) (x20 : Int32), r17 = some a18 ∧ job H16 a18 4 fs19 ∧ jn fs19 2 = some (jI x20) ∧
  ((x10 - x20) = 0 →
    ∃ (a21 : Nat) (fs22 : List JVal) (r23 : Option Nat), this = some a21 ∧ job H16 a21 1 fs22 ∧ jn fs22 0 = some (jR r23) ∧
    ∃ (a24 : Nat) (fs25 : List JVal), r23 = some a24 ∧ job H16 a24 11 fs25 ∧ /- J2_get -/ ∃ (r27 : Option Nat) (H26 : JHp), jok (jprog G) 132 [jR r23, jI i_2] H16 (.inl (some (jR r27))) H26 ∧
    (∀ a, r27 = some a → ∃ fs, job H26 a 4 fs) ∧
    ∃ (a28 : Nat) (fs29 : List JVal) (x30 : Int32), r27 = some a28 ∧ job H26 a28 4 fs29 ∧ jn fs29 3 = some (jI x30) ∧
    ∃ (a31 : Nat) (fs32 : List JVal) (r33 : Option Nat), this = some a31 ∧ job H26 a31 1 fs32 ∧ jn fs32 0 = some (jR r33) ∧
    ∃ (a34 : Nat) (fs35 : List JVal), r33 = some a34 ∧ job H26 a34 11 fs35 ∧ /- J2_get -/ ∃ (r37 : Option Nat) (H36 : JHp), jok (jprog G) 132 [jR r33, jI i_1] H26 (.inl (some (jR r37))) H36 ∧
    (∀ a, r37 = some a → ∃ fs, job H36 a 4 fs) ∧
    ∃ (a38 : Nat) (fs39 : List JVal) (x40 : Int32), r37 = some a38 ∧ job H36 a38 4 fs39 ∧ jn fs39 3 = some (jI x40) ∧
    ((x30 - x40) = 0 →
      (i_2 ≤ i_1 →
        jbool (0 : Int32) ∧ Rt (.inl (some (jI 0))) H36) ∧
      (¬ i_2 ≤ i_1 →
        jbool (1 : Int32) ∧ Rt (.inl (some (jI 1))) H36)) ∧
    (¬ (x30 - x40) = 0 →
      ((x30 - x40) ≤ 0 →
        jbool (0 : Int32) ∧ Rt (.inl (some (jI 0))) H36) ∧
      (¬ (x30 - x40) ≤ 0 →
        jbool (1 : Int32) ∧ Rt (.inl (some (jI 1))) H36))) ∧
  (¬ (x10 - x20) = 0 →
    ((x10 - x20) ≤ 0 →
      jbool (0 : Int32) ∧ Rt (.inl (some (jI 0))) H16) ∧
    (¬ (x10 - x20) ≤ 0 →
      jbool (1 : Int32) ∧ Rt (.inl (some (jI 1))) H16))) :
  jwp (jprog G) 332 Rt 0 [some (jR this), some (jI i_1), some (jI i_2), none, none] [] H :=
  junf_wp (jprog_nf G) (stop := jmem []) (pX1_isRustier G) 4000 _ _ _ _ h
/-- UnheardBells$Machine rustiest(I)I @0 -/
theorem gX1_rustiest_0 (G : JG) {Rt : JRt} (this : Option Nat) (i_1 : Int32) {H : JHp} (h :
  jwp (jprog G) 333 Rt 2 [some (jR this), some (jI i_1), some (jI 0), none, none] [] H) :
  jwp (jprog G) 333 Rt 0 [some (jR this), some (jI i_1), none, none, none] [] H :=
  junf_wp (jprog_nf G) (stop := jmem [2, 18]) (pX1_rustiest G) 4000 _ _ _ _ h
/-- UnheardBells$Machine rustiest(I)I @2 -/
theorem gX1_rustiest_2 (G : JG) {Rt : JRt} (r_0 : Option Nat) (i_1 : Int32) (i_2 : Int32) (q_3 : Option JVal) (q_4 : Option JVal) {H : JHp} (h :
  ∃ (a1 : Nat) (fs2 : List JVal) (r3 : Option Nat), r_0 = some a1 ∧ job H a1 1 fs2 ∧ jn fs2 0 = some (jR r3) ∧
  ∃ (a4 : Nat) (fs5 : List JVal), r3 = some a4 ∧ job H a4 11 fs5 ∧ /- J2_size -/ ∃ (x7 : Int32) (H6 : JHp), jok (jprog G) 104 [jR r3] H (.inl (some (jI x7))) H6 ∧
  (x7 ≤ i_2 →
    Rt (.inl (some (jI (-1011)))) H6) ∧
  (¬ x7 ≤ i_2 →
    jwp (jprog G) 333 Rt 18 [some (jR r_0), some (jI i_1), some (jI i_2), some (jI 0), some (jI 0)] [] H6)) :
  jwp (jprog G) 333 Rt 2 [some (jR r_0), some (jI i_1), some (jI i_2), q_3, q_4] [] H :=
  junf_wp (jprog_nf G) (stop := jmem [2, 18]) (pX1_rustiest G) 4000 _ _ _ _ h
/-- UnheardBells$Machine rustiest(I)I @18 -/
theorem gX1_rustiest_18 (G : JG) {Rt : JRt} (r_0 : Option Nat) (i_1 : Int32) (i_2 : Int32) (i_3 : Int32) (i_4 : Int32) {H : JHp} (h :
  ∃ (a1 : Nat) (fs2 : List JVal) (r3 : Option Nat), r_0 = some a1 ∧ job H a1 1 fs2 ∧ jn fs2 0 = some (jR r3) ∧
  ∃ (a4 : Nat) (fs5 : List JVal), r3 = some a4 ∧ job H a4 11 fs5 ∧ /- J2_size -/ ∃ (x7 : Int32) (H6 : JHp), jok (jprog G) 104 [jR r3] H (.inl (some (jI x7))) H6 ∧
  (x7 ≤ i_4 →
    (¬ i_3 = i_1 →
      jwp (jprog G) 333 Rt 2 [some (jR r_0), some (jI i_1), some (jI (i_2 + 1)), some (jI i_3), some (jI i_4)] [] H6) ∧
    (¬ ¬ i_3 = i_1 →
      Rt (.inl (some (jI i_2))) H6)) ∧
  (¬ x7 ≤ i_4 →
    (i_4 = i_2 →
      jwp (jprog G) 333 Rt 18 [some (jR r_0), some (jI i_1), some (jI i_2), some (jI (i_3 + (0 : Int32))), some (jI (i_4 + 1))] [] H6) ∧
    (¬ i_4 = i_2 →
      ∃ (a8 : Nat) (fs9 : List JVal), r_0 = some a8 ∧ job H6 a8 1 fs9 ∧ /- X1_isRustier -/ ∃ (x11 : Int32) (H10 : JHp), jok (jprog G) 332 [jR r_0, jI i_4, jI i_2] H6 (.inl (some (jI x11))) H10 ∧
      (x11 = 0 →
        jwp (jprog G) 333 Rt 18 [some (jR r_0), some (jI i_1), some (jI i_2), some (jI (i_3 + (0 : Int32))), some (jI (i_4 + 1))] [] H10) ∧
      (¬ x11 = 0 →
        jwp (jprog G) 333 Rt 18 [some (jR r_0), some (jI i_1), some (jI i_2), some (jI (i_3 + (1 : Int32))), some (jI (i_4 + 1))] [] H10)))) :
  jwp (jprog G) 333 Rt 18 [some (jR r_0), some (jI i_1), some (jI i_2), some (jI i_3), some (jI i_4)] [] H :=
  junf_wp (jprog_nf G) (stop := jmem [2, 18]) (pX1_rustiest G) 4000 _ _ _ _ h
/-- UnheardBells rustiest(I)I @0 -/
theorem gX0_rustiest_0 (G : JG) {Rt : JRt} (this : Option Nat) (i_1 : Int32) {H : JHp} (h :
  ∃ (a1 : Nat) (fs2 : List JVal) (r3 : Option Nat), this = some a1 ∧ job H a1 0 fs2 ∧ jn fs2 1 = some (jR r3) ∧
  ∃ (a4 : Nat) (fs5 : List JVal), r3 = some a4 ∧ job H a4 1 fs5 ∧ /- X1_rustiest -/ ∃ (x7 : Int32) (H6 : JHp), jok (jprog G) 333 [jR r3, jI i_1] H (.inl (some (jI x7))) H6 ∧
  Rt (.inl (some (jI x7))) H6) :
  jwp (jprog G) 334 Rt 0 [some (jR this), some (jI i_1)] [] H :=
  junf_wp (jprog_nf G) (stop := jmem []) (pX0_rustiest G) 4000 _ _ _ _ h
/-- UnheardBells$Machine busiest()I @0 -/
theorem gX1_busiest_0 (G : JG) {Rt : JRt} (this : Option Nat) {H : JHp} (h :
  ∃ (a1 : Nat) (fs2 : List JVal) (r3 : Option Nat), this = some a1 ∧ job H a1 1 fs2 ∧ jn fs2 2 = some (jR r3) ∧
  ∃ (a4 : Nat) (fs5 : List JVal), r3 = some a4 ∧ job H a4 13 fs5 ∧ /- J6_keySet -/ ∃ (r7 : Option Nat) (H6 : JHp), jok (jprog G) 51 [jR r3] H (.inl (some (jR r7))) H6 ∧
  ∃ (a8 : Nat) (fs9 : List JVal), r7 = some a8 ∧ job H6 a8 22 fs9 ∧ /- J29_iterator -/ ∃ (r11 : Option Nat) (H10 : JHp), jok (jprog G) 56 [jR r7] H6 (.inl (some (jR r11))) H10 ∧
  jwp (jprog G) 338 Rt 17 [some (jR this), some (jI (-1015)), some (jR r11), none] [] H10) :
  jwp (jprog G) 338 Rt 0 [some (jR this), none, none, none] [] H :=
  junf_wp (jprog_nf G) (stop := jmem [17]) (pX1_busiest G) 4000 _ _ _ _ h
/-- UnheardBells$Machine busiest()I @17 -/
theorem gX1_busiest_17 (G : JG) {Rt : JRt} (r_0 : Option Nat) (i_1 : Int32) (r_2 : Option Nat) (q_3 : Option JVal) {H : JHp} (h :
  ∃ (a1 : Nat) (fs2 : List JVal), r_2 = some a1 ∧ job H a1 23 fs2 ∧ /- J30_hasNext__J31 -/ ∃ (x4 : Int32) (H3 : JHp), jok (jprog G) 57 [jR r_2] H (.inl (some (jI x4))) H3 ∧
  (x4 = 0 →
    Rt (.inl (some (jI i_1))) H3) ∧
  (¬ x4 = 0 →
    ∃ (a5 : Nat) (fs6 : List JVal), r_2 = some a5 ∧ job H3 a5 23 fs6 ∧ /- J31_next -/ ∃ (r8 : Option Nat) (H7 : JHp), jok (jprog G) 60 [jR r_2] H3 (.inl (some (jR r8))) H7 ∧
    (∀ a, r8 = some a → ∃ fs, job H7 a 21 fs) ∧
    ∃ (a9 : Nat) (fs10 : List JVal), r8 = some a9 ∧ job H7 a9 21 fs10 ∧ /- J25_intValue -/ ∃ (x12 : Int32) (H11 : JHp), jok (jprog G) 61 [jR r8] H7 (.inl (some (jI x12))) H11 ∧
    (i_1 = (-1015 : Int32) →
      jwp (jprog G) 338 Rt 17 [some (jR r_0), some (jI x12), some (jR r_2), some (jI x12)] [] H11) ∧
    (¬ i_1 = (-1015 : Int32) →
      ∃ (a13 : Nat) (fs14 : List JVal), r_0 = some a13 ∧ job H11 a13 1 fs14 ∧ /- X1_answeredIn -/ ∃ (r16 : Option Nat) (H15 : JHp), jok (jprog G) 133 [jR r_0, jI x12] H11 (.inl (some (jR r16))) H15 ∧
      ∃ (a17 : Nat) (fs18 : List JVal), r16 = some a17 ∧ job H15 a17 24 fs18 ∧ /- J32_cardinality -/ ∃ (x20 : Int32) (H19 : JHp), jok (jprog G) 337 [jR r16] H15 (.inl (some (jI x20))) H19 ∧
      ∃ (a21 : Nat) (fs22 : List JVal), r_0 = some a21 ∧ job H19 a21 1 fs22 ∧ /- X1_answeredIn -/ ∃ (r24 : Option Nat) (H23 : JHp), jok (jprog G) 133 [jR r_0, jI i_1] H19 (.inl (some (jR r24))) H23 ∧
      ∃ (a25 : Nat) (fs26 : List JVal), r24 = some a25 ∧ job H23 a25 24 fs26 ∧ /- J32_cardinality -/ ∃ (x28 : Int32) (H27 : JHp), jok (jprog G) 337 [jR r24] H23 (.inl (some (jI x28))) H27 ∧
      (x20 ≤ x28 →
        jwp (jprog G) 338 Rt 17 [some (jR r_0), some (jI i_1), some (jR r_2), some (jI x12)] [] H27) ∧
      (¬ x20 ≤ x28 →
        jwp (jprog G) 338 Rt 17 [some (jR r_0), some (jI x12), some (jR r_2), some (jI x12)] [] H27)))) :
  jwp (jprog G) 338 Rt 17 [some (jR r_0), some (jI i_1), some (jR r_2), q_3] [] H :=
  junf_wp (jprog_nf G) (stop := jmem [17]) (pX1_busiest G) 4000 _ _ _ _ h
/-- UnheardBells busiest()I @0 -/
theorem gX0_busiest_0 (G : JG) {Rt : JRt} (this : Option Nat) {H : JHp} (h :
  ∃ (a1 : Nat) (fs2 : List JVal) (r3 : Option Nat), this = some a1 ∧ job H a1 0 fs2 ∧ jn fs2 1 = some (jR r3) ∧
  ∃ (a4 : Nat) (fs5 : List JVal), r3 = some a4 ∧ job H a4 1 fs5 ∧ /- X1_busiest -/ ∃ (x7 : Int32) (H6 : JHp), jok (jprog G) 338 [jR r3] H (.inl (some (jI x7))) H6 ∧
  Rt (.inl (some (jI x7))) H6) :
  jwp (jprog G) 339 Rt 0 [some (jR this)] [] H :=
  junf_wp (jprog_nf G) (stop := jmem []) (pX0_busiest G) 4000 _ _ _ _ h
/-- UnheardBells$Machine waitingIn(I)I @0 -/
theorem gX1_waitingIn_0 (G : JG) {Rt : JRt} (this : Option Nat) (i_1 : Int32) {H : JHp} (h :
  ∃ (a1 : Nat) (fs2 : List JVal) (r3 : Option Nat), this = some a1 ∧ job H a1 1 fs2 ∧ jn fs2 1 = some (jR r3) ∧
  ∃ (a4 : Nat) (fs5 : List JVal), r3 = some a4 ∧ job H a4 12 fs5 ∧ /- J4_iterator -/ ∃ (r7 : Option Nat) (H6 : JHp), jok (jprog G) 27 [jR r3] H (.inl (some (jR r7))) H6 ∧
  jwp (jprog G) 342 Rt 10 [some (jR this), some (jI i_1), some (jI 0), some (jR r7), none] [] H6) :
  jwp (jprog G) 342 Rt 0 [some (jR this), some (jI i_1), none, none, none] [] H :=
  junf_wp (jprog_nf G) (stop := jmem [10]) (pX1_waitingIn G) 4000 _ _ _ _ h
/-- UnheardBells$Machine waitingIn(I)I @10 -/
theorem gX1_waitingIn_10 (G : JG) {Rt : JRt} (r_0 : Option Nat) (i_1 : Int32) (i_2 : Int32) (r_3 : Option Nat) (q_4 : Option JVal) {H : JHp} (h :
  ∃ (a1 : Nat) (fs2 : List JVal), r_3 = some a1 ∧ job H a1 20 fs2 ∧ /- J23_hasNext -/ ∃ (x4 : Int32) (H3 : JHp), jok (jprog G) 29 [jR r_3] H (.inl (some (jI x4))) H3 ∧
  (x4 = 0 →
    Rt (.inl (some (jI i_2))) H3) ∧
  (¬ x4 = 0 →
    ∃ (a5 : Nat) (fs6 : List JVal), r_3 = some a5 ∧ job H3 a5 20 fs6 ∧ /- J23_next -/ ∃ (r8 : Option Nat) (H7 : JHp), jok (jprog G) 34 [jR r_3] H3 (.inl (some (jR r8))) H7 ∧
    (∀ a, r8 = some a → ∃ fs, job H7 a 6 fs) ∧
    ∃ (a9 : Nat) (fs10 : List JVal) (r11 : Option Nat), r_0 = some a9 ∧ job H7 a9 1 fs10 ∧ jn fs10 0 = some (jR r11) ∧
    ∃ (a12 : Nat) (fs13 : List JVal) (x14 : Int32), r8 = some a12 ∧ job H7 a12 6 fs13 ∧ jn fs13 0 = some (jI x14) ∧
    ∃ (a15 : Nat) (fs16 : List JVal), r11 = some a15 ∧ job H7 a15 11 fs16 ∧ /- J2_get -/ ∃ (r18 : Option Nat) (H17 : JHp), jok (jprog G) 132 [jR r11, jI x14] H7 (.inl (some (jR r18))) H17 ∧
    (∀ a, r18 = some a → ∃ fs, job H17 a 4 fs) ∧
    ∃ (a19 : Nat) (fs20 : List JVal) (x21 : Int32), r18 = some a19 ∧ job H17 a19 4 fs20 ∧ jn fs20 0 = some (jI x21) ∧
    (¬ x21 = i_1 →
      jwp (jprog G) 342 Rt 10 [some (jR r_0), some (jI i_1), some (jI (i_2 + (0 : Int32))), some (jR r_3), some (jR r8)] [] H17) ∧
    (¬ ¬ x21 = i_1 →
      jwp (jprog G) 342 Rt 10 [some (jR r_0), some (jI i_1), some (jI (i_2 + (1 : Int32))), some (jR r_3), some (jR r8)] [] H17))) :
  jwp (jprog G) 342 Rt 10 [some (jR r_0), some (jI i_1), some (jI i_2), some (jR r_3), q_4] [] H :=
  junf_wp (jprog_nf G) (stop := jmem [10]) (pX1_waitingIn G) 4000 _ _ _ _ h
/-- UnheardBells$Machine guessed(I)I @0 -/
theorem gX1_guessed_0 (G : JG) {Rt : JRt} (this : Option Nat) (i_1 : Int32) {H : JHp} (h :
  ∃ (a1 : Nat) (fs2 : List JVal) (r3 : Option Nat), this = some a1 ∧ job H a1 1 fs2 ∧ jn fs2 2 = some (jR r3) ∧
  ∃ (a4 : Nat) (fs5 : List JVal), r3 = some a4 ∧ job H a4 13 fs5 ∧ /- J6_keySet -/ ∃ (r7 : Option Nat) (H6 : JHp), jok (jprog G) 51 [jR r3] H (.inl (some (jR r7))) H6 ∧
  ∃ (a8 : Nat) (fs9 : List JVal), r7 = some a8 ∧ job H6 a8 22 fs9 ∧ /- J29_iterator -/ ∃ (r11 : Option Nat) (H10 : JHp), jok (jprog G) 56 [jR r7] H6 (.inl (some (jR r11))) H10 ∧
  jwp (jprog G) 343 Rt 15 [some (jR this), some (jI i_1), some (jI 0), some (jR r11), none] [] H10) :
  jwp (jprog G) 343 Rt 0 [some (jR this), some (jI i_1), none, none, none] [] H :=
  junf_wp (jprog_nf G) (stop := jmem [15]) (pX1_guessed G) 4000 _ _ _ _ h
/-- UnheardBells$Machine guessed(I)I @15 -/
theorem gX1_guessed_15 (G : JG) {Rt : JRt} (r_0 : Option Nat) (i_1 : Int32) (i_2 : Int32) (r_3 : Option Nat) (q_4 : Option JVal) {H : JHp} (h :
  ∃ (a1 : Nat) (fs2 : List JVal), r_3 = some a1 ∧ job H a1 23 fs2 ∧ /- J30_hasNext__J31 -/ ∃ (x4 : Int32) (H3 : JHp), jok (jprog G) 57 [jR r_3] H (.inl (some (jI x4))) H3 ∧
  (x4 = 0 →
    Rt (.inl (some (jI i_2))) H3) ∧
  (¬ x4 = 0 →
    ∃ (a5 : Nat) (fs6 : List JVal), r_3 = some a5 ∧ job H3 a5 23 fs6 ∧ /- J31_next -/ ∃ (r8 : Option Nat) (H7 : JHp), jok (jprog G) 60 [jR r_3] H3 (.inl (some (jR r8))) H7 ∧
    (∀ a, r8 = some a → ∃ fs, job H7 a 21 fs) ∧
    ∃ (a9 : Nat) (fs10 : List JVal), r8 = some a9 ∧ job H7 a9 21 fs10 ∧ /- J25_intValue -/ ∃ (x12 : Int32) (H11 : JHp), jok (jprog G) 61 [jR r8] H7 (.inl (some (jI x12))) H11 ∧
    ∃ (a13 : Nat) (fs14 : List JVal), r_0 = some a13 ∧ job H11 a13 1 fs14 ∧ /- X1_guess -/ ∃ (x16 : Int32) (H15 : JHp), jok (jprog G) 167 [jR r_0, jI x12] H11 (.inl (some (jI x16))) H15 ∧
    (¬ x16 = i_1 →
      jwp (jprog G) 343 Rt 15 [some (jR r_0), some (jI i_1), some (jI (i_2 + (0 : Int32))), some (jR r_3), some (jI x12)] [] H15) ∧
    (¬ ¬ x16 = i_1 →
      jwp (jprog G) 343 Rt 15 [some (jR r_0), some (jI i_1), some (jI (i_2 + (1 : Int32))), some (jR r_3), some (jI x12)] [] H15))) :
  jwp (jprog G) 343 Rt 15 [some (jR r_0), some (jI i_1), some (jI i_2), some (jR r_3), q_4] [] H :=
  junf_wp (jprog_nf G) (stop := jmem [15]) (pX1_guessed G) 4000 _ _ _ _ h
/-- UnheardBells$Machine rustOf(I)I @0 -/
theorem gX1_rustOf_0 (G : JG) {Rt : JRt} (this : Option Nat) (i_1 : Int32) {H : JHp} (h :
  ∃ (a1 : Nat) (fs2 : List JVal) (r3 : Option Nat), this = some a1 ∧ job H a1 1 fs2 ∧ jn fs2 0 = some (jR r3) ∧
  ∃ (a4 : Nat) (fs5 : List JVal), r3 = some a4 ∧ job H a4 11 fs5 ∧ /- J2_iterator -/ ∃ (r7 : Option Nat) (H6 : JHp), jok (jprog G) 18 [jR r3] H (.inl (some (jR r7))) H6 ∧
  jwp (jprog G) 344 Rt 10 [some (jR this), some (jI i_1), some (jI 0), some (jR r7), none] [] H6) :
  jwp (jprog G) 344 Rt 0 [some (jR this), some (jI i_1), none, none, none] [] H :=
  junf_wp (jprog_nf G) (stop := jmem [10]) (pX1_rustOf G) 4000 _ _ _ _ h
/-- UnheardBells$Machine rustOf(I)I @10 -/
theorem gX1_rustOf_10 (G : JG) {Rt : JRt} (q_0 : Option JVal) (i_1 : Int32) (i_2 : Int32) (r_3 : Option Nat) (q_4 : Option JVal) {H : JHp} (h :
  ∃ (a1 : Nat) (fs2 : List JVal), r_3 = some a1 ∧ job H a1 17 fs2 ∧ /- J12_hasNext -/ ∃ (x4 : Int32) (H3 : JHp), jok (jprog G) 19 [jR r_3] H (.inl (some (jI x4))) H3 ∧
  (x4 = 0 →
    Rt (.inl (some (jI i_2))) H3) ∧
  (¬ x4 = 0 →
    ∃ (a5 : Nat) (fs6 : List JVal), r_3 = some a5 ∧ job H3 a5 17 fs6 ∧ /- J12_next -/ ∃ (r8 : Option Nat) (H7 : JHp), jok (jprog G) 21 [jR r_3] H3 (.inl (some (jR r8))) H7 ∧
    (∀ a, r8 = some a → ∃ fs, job H7 a 4 fs) ∧
    ∃ (a9 : Nat) (fs10 : List JVal) (x11 : Int32), r8 = some a9 ∧ job H7 a9 4 fs10 ∧ jn fs10 0 = some (jI x11) ∧
    (¬ x11 = i_1 →
      jwp (jprog G) 344 Rt 10 [q_0, some (jI i_1), some (jI (i_2 + (0 : Int32))), some (jR r_3), some (jR r8)] [] H7) ∧
    (¬ ¬ x11 = i_1 →
      ∃ (a12 : Nat) (fs13 : List JVal) (x14 : Int32), r8 = some a12 ∧ job H7 a12 4 fs13 ∧ jn fs13 2 = some (jI x14) ∧
      jwp (jprog G) 344 Rt 10 [q_0, some (jI i_1), some (jI (i_2 + x14)), some (jR r_3), some (jR r8)] [] H7))) :
  jwp (jprog G) 344 Rt 10 [q_0, some (jI i_1), some (jI i_2), some (jR r_3), q_4] [] H :=
  junf_wp (jprog_nf G) (stop := jmem [10]) (pX1_rustOf G) 4000 _ _ _ _ h
/-- UnheardBells$Machine ofParish(II)I @0 -/
theorem gX1_ofParish_0 (G : JG) {Rt : JRt} (this : Option Nat) (i_1 : Int32) (i_2 : Int32) {H : JHp} (h :
  (i_2 = 0 → ∃ (a1 : Nat) (fs2 : List JVal), this = some a1 ∧ job H a1 1 fs2 ∧ /- X1_ropesOf -/ ∃ (x4 : Int32) (H3 : JHp), jok (jprog G) 165 [jR this, jI i_1] H (.inl (some (jI x4))) H3 ∧
    Rt (.inl (some (jI x4))) H3) ∧
  (¬ i_2 = 0 → (i_2 = 1 → ∃ (a5 : Nat) (fs6 : List JVal), this = some a5 ∧ job H a5 1 fs6 ∧ /- X1_answersOf -/ ∃ (x8 : Int32) (H7 : JHp), jok (jprog G) 326 [jR this, jI i_1] H (.inl (some (jI x8))) H7 ∧
    Rt (.inl (some (jI x8))) H7) ∧
  (¬ i_2 = 1 → (i_2 = 2 → ∃ (a9 : Nat) (fs10 : List JVal), this = some a9 ∧ job H a9 1 fs10 ∧ /- X1_rustOf -/ ∃ (x12 : Int32) (H11 : JHp), jok (jprog G) 344 [jR this, jI i_1] H (.inl (some (jI x12))) H11 ∧
    Rt (.inl (some (jI x12))) H11) ∧
  (¬ i_2 = 2 → (i_2 = 3 → ∃ (a13 : Nat) (fs14 : List JVal), this = some a13 ∧ job H a13 1 fs14 ∧ /- X1_guessed -/ ∃ (x16 : Int32) (H15 : JHp), jok (jprog G) 343 [jR this, jI i_1] H (.inl (some (jI x16))) H15 ∧
    Rt (.inl (some (jI x16))) H15) ∧
  (¬ i_2 = 3 → (i_2 = 4 → ∃ (a17 : Nat) (fs18 : List JVal), this = some a17 ∧ job H a17 1 fs18 ∧ /- X1_waitingIn -/ ∃ (x20 : Int32) (H19 : JHp), jok (jprog G) 342 [jR this, jI i_1] H (.inl (some (jI x20))) H19 ∧
    Rt (.inl (some (jI x20))) H19) ∧
  (¬ i_2 = 4 → Rt (.inl (some (jI (-1012)))) H)))))) :
  jwp (jprog G) 345 Rt 0 [some (jR this), some (jI i_1), some (jI i_2)] [] H :=
  junf_wp (jprog_nf G) (stop := jmem []) (pX1_ofParish G) 4000 _ _ _ _ h
/-- UnheardBells parishOf(II)I @0 -/
theorem gX0_parishOf_0 (G : JG) {Rt : JRt} (this : Option Nat) (i_1 : Int32) (i_2 : Int32) {H : JHp} (h :
  /- X0_isParish -/ ∃ (x2 : Int32) (H1 : JHp), jok (jprog G) 253 [jI i_1] H (.inl (some (jI x2))) H1 ∧
  (x2 = 0 →
    Rt (.inl (some (jI (-1011)))) H1) ∧
  (¬ x2 = 0 →
    ∃ (a3 : Nat) (fs4 : List JVal) (r5 : Option Nat), this = some a3 ∧ job H1 a3 0 fs4 ∧ jn fs4 1 = some (jR r5) ∧
    ∃ (a6 : Nat) (fs7 : List JVal), r5 = some a6 ∧ job H1 a6 1 fs7 ∧ /- X1_ofParish -/ ∃ (x9 : Int32) (H8 : JHp), jok (jprog G) 345 [jR r5, jI i_1, jI i_2] H1 (.inl (some (jI x9))) H8 ∧
    Rt (.inl (some (jI x9))) H8)) :
  jwp (jprog G) 346 Rt 0 [some (jR this), some (jI i_1), some (jI i_2)] [] H :=
  junf_wp (jprog_nf G) (stop := jmem []) (pX0_parishOf G) 4000 _ _ _ _ h
/-- UnheardBells guessAgain(I)I @0 -/
theorem gX0_guessAgain_0 (G : JG) {Rt : JRt} (this : Option Nat) (i_1 : Int32) {H : JHp} (h :
  /- X0_isHour -/ ∃ (x2 : Int32) (H1 : JHp), jok (jprog G) 257 [jI i_1] H (.inl (some (jI x2))) H1 ∧
  (x2 = 0 →
    Rt (.inl (some (jI (-1012)))) H1) ∧
  (¬ x2 = 0 →
    ∃ (a3 : Nat) (fs4 : List JVal) (r5 : Option Nat), this = some a3 ∧ job H1 a3 0 fs4 ∧ jn fs4 1 = some (jR r5) ∧
    ∃ (a6 : Nat) (fs7 : List JVal), r5 = some a6 ∧ job H1 a6 1 fs7 ∧ /- X1_guessAgain -/ ∃ (x9 : Int32) (H8 : JHp), jok (jprog G) 171 [jR r5, jI i_1] H1 (.inl (some (jI x9))) H8 ∧
    Rt (.inl (some (jI x9))) H8)) :
  jwp (jprog G) 349 Rt 0 [some (jR this), some (jI i_1)] [] H :=
  junf_wp (jprog_nf G) (stop := jmem []) (pX0_guessAgain G) 4000 _ _ _ _ h
/-- UnheardBells guess(I)I @0 -/
theorem gX0_guess_0 (G : JG) {Rt : JRt} (this : Option Nat) (i_1 : Int32) {H : JHp} (h :
  /- X0_isHour -/ ∃ (x2 : Int32) (H1 : JHp), jok (jprog G) 257 [jI i_1] H (.inl (some (jI x2))) H1 ∧
  (x2 = 0 →
    Rt (.inl (some (jI (-1012)))) H1) ∧
  (¬ x2 = 0 →
    ∃ (a3 : Nat) (fs4 : List JVal) (r5 : Option Nat), this = some a3 ∧ job H1 a3 0 fs4 ∧ jn fs4 1 = some (jR r5) ∧
    ∃ (a6 : Nat) (fs7 : List JVal), r5 = some a6 ∧ job H1 a6 1 fs7 ∧ /- X1_guess -/ ∃ (x9 : Int32) (H8 : JHp), jok (jprog G) 167 [jR r5, jI i_1] H1 (.inl (some (jI x9))) H8 ∧
    Rt (.inl (some (jI x9))) H8)) :
  jwp (jprog G) 353 Rt 0 [some (jR this), some (jI i_1)] [] H :=
  junf_wp (jprog_nf G) (stop := jmem []) (pX0_guess G) 4000 _ _ _ _ h
/-- UnheardBells$Machine setOf(I)I @0 -/
theorem gX1_setOf_0 (G : JG) {Rt : JRt} (this : Option Nat) (i_1 : Int32) {H : JHp} (h :
  ∃ (a1 : Nat) (fs2 : List JVal), this = some a1 ∧ job H a1 1 fs2 ∧ /- X1_answeredIn -/ ∃ (r4 : Option Nat) (H3 : JHp), jok (jprog G) 133 [jR this, jI i_1] H (.inl (some (jR r4))) H3 ∧
  ∃ (a5 : Nat) (fs6 : List JVal), r4 = some a5 ∧ job H3 a5 24 fs6 ∧ /- J32_nextSetBit -/ ∃ (x8 : Int32) (H7 : JHp), jok (jprog G) 170 [jR r4, jI 0] H3 (.inl (some (jI x8))) H7 ∧
  jwp (jprog G) 354 Rt 15 [some (jR this), some (jI i_1), some (jI 0), some (jR r4), some (jI x8)] [] H7) :
  jwp (jprog G) 354 Rt 0 [some (jR this), some (jI i_1), none, none, none] [] H :=
  junf_wp (jprog_nf G) (stop := jmem [15]) (pX1_setOf G) 4000 _ _ _ _ h
/-- UnheardBells$Machine setOf(I)I @15 -/
theorem gX1_setOf_15 (G : JG) {Rt : JRt} (q_0 : Option JVal) (q_1 : Option JVal) (i_2 : Int32) (r_3 : Option Nat) (i_4 : Int32) {H : JHp} (h :
  (i_4 < 0 →
    Rt (.inl (some (jI i_2))) H) ∧
  (¬ i_4 < 0 →
    ∃ (a1 : Nat) (fs2 : List JVal), r_3 = some a1 ∧ job H a1 24 fs2 ∧ /- J32_nextSetBit -/ ∃ (x4 : Int32) (H3 : JHp), jok (jprog G) 170 [jR r_3, jI (i_4 + (1 : Int32))] H (.inl (some (jI x4))) H3 ∧
    jwp (jprog G) 354 Rt 15 [q_0, (jclr q_1), some (jI (i_2 ||| (jshl (1 : Int32) i_4))), some (jR r_3), some (jI x4)] [] H3)) :
  jwp (jprog G) 354 Rt 15 [q_0, q_1, some (jI i_2), some (jR r_3), some (jI i_4)] [] H :=
  junf_wp (jprog_nf G) (stop := jmem [15]) (pX1_setOf G) 4000 _ _ _ _ h
/-- UnheardBells answered(I)I @0 -/
theorem gX0_answered_0 (G : JG) {Rt : JRt} (this : Option Nat) (i_1 : Int32) {H : JHp} (h :
  /- X0_isHour -/ ∃ (x2 : Int32) (H1 : JHp), jok (jprog G) 257 [jI i_1] H (.inl (some (jI x2))) H1 ∧
  (x2 = 0 →
    Rt (.inl (some (jI (-1012)))) H1) ∧
  (¬ x2 = 0 →
    ∃ (a3 : Nat) (fs4 : List JVal) (r5 : Option Nat), this = some a3 ∧ job H1 a3 0 fs4 ∧ jn fs4 1 = some (jR r5) ∧
    ∃ (a6 : Nat) (fs7 : List JVal), r5 = some a6 ∧ job H1 a6 1 fs7 ∧ /- X1_setOf -/ ∃ (x9 : Int32) (H8 : JHp), jok (jprog G) 354 [jR r5, jI i_1] H1 (.inl (some (jI x9))) H8 ∧
    Rt (.inl (some (jI x9))) H8)) :
  jwp (jprog G) 355 Rt 0 [some (jR this), some (jI i_1)] [] H :=
  junf_wp (jprog_nf G) (stop := jmem []) (pX0_answered G) 4000 _ _ _ _ h
/-- UnheardBells$Answer of(I)I @0 -/
theorem gX7_of_0 (G : JG) {Rt : JRt} (this : Option Nat) (i_1 : Int32) {H : JHp} (h :
  (i_1 = 0 → ∃ (a1 : Nat) (fs2 : List JVal) (x3 : Int32), this = some a1 ∧ job H a1 7 fs2 ∧ jn fs2 0 = some (jI x3) ∧
    Rt (.inl (some (jI x3))) H) ∧
  (¬ i_1 = 0 → (i_1 = 1 → ∃ (a4 : Nat) (fs5 : List JVal) (x6 : Int32), this = some a4 ∧ job H a4 7 fs5 ∧ jn fs5 1 = some (jI x6) ∧
    Rt (.inl (some (jI x6))) H) ∧
  (¬ i_1 = 1 → (i_1 = 2 → ∃ (a7 : Nat) (fs8 : List JVal) (x9 : Int32), this = some a7 ∧ job H a7 7 fs8 ∧ jn fs8 2 = some (jI x9) ∧
    Rt (.inl (some (jI x9))) H) ∧
  (¬ i_1 = 2 → (i_1 = 3 → ∃ (a10 : Nat) (fs11 : List JVal) (x12 : Int32), this = some a10 ∧ job H a10 7 fs11 ∧ jn fs11 3 = some (jI x12) ∧
    Rt (.inl (some (jI x12))) H) ∧
  (¬ i_1 = 3 → Rt (.inl (some (jI (-1012)))) H))))) :
  jwp (jprog G) 357 Rt 0 [some (jR this), some (jI i_1)] [] H :=
  junf_wp (jprog_nf G) (stop := jmem []) (pX7_of G) 4000 _ _ _ _ h
/-- UnheardBells$Machine ofAnswer(II)I @0 -/
theorem gX1_ofAnswer_0 (G : JG) {Rt : JRt} (this : Option Nat) (i_1 : Int32) (i_2 : Int32) {H : JHp} (h :
  ∃ (a1 : Nat) (fs2 : List JVal) (r3 : Option Nat), this = some a1 ∧ job H a1 1 fs2 ∧ jn fs2 3 = some (jR r3) ∧
  ∃ (a4 : Nat) (fs5 : List JVal), r3 = some a4 ∧ job H a4 14 fs5 ∧ /- J7_iterator -/ ∃ (r7 : Option Nat) (H6 : JHp), jok (jprog G) 94 [jR r3] H (.inl (some (jR r7))) H6 ∧
  jwp (jprog G) 358 Rt 11 [some (jR this), some (jI i_1), some (jI i_2), some (jI 0), some (jR r7), none] [] H6) :
  jwp (jprog G) 358 Rt 0 [some (jR this), some (jI i_1), some (jI i_2), none, none, none] [] H :=
  junf_wp (jprog_nf G) (stop := jmem [11]) (pX1_ofAnswer G) 4000 _ _ _ _ h
/-- UnheardBells$Machine ofAnswer(II)I @11 -/
theorem gX1_ofAnswer_11 (G : JG) {Rt : JRt} (q_0 : Option JVal) (i_1 : Int32) (i_2 : Int32) (i_3 : Int32) (r_4 : Option Nat) (q_5 : Option JVal) {H : JHp} (h :
  ∃ (a1 : Nat) (fs2 : List JVal), r_4 = some a1 ∧ job H a1 26 fs2 ∧ /- J34_hasNext -/ ∃ (x4 : Int32) (H3 : JHp), jok (jprog G) 95 [jR r_4] H (.inl (some (jI x4))) H3 ∧
  (x4 = 0 →
    Rt (.inl (some (jI (-1011)))) H3) ∧
  (¬ x4 = 0 →
    ∃ (a5 : Nat) (fs6 : List JVal), r_4 = some a5 ∧ job H3 a5 26 fs6 ∧ /- J34_next -/ ∃ (r8 : Option Nat) (H7 : JHp), jok (jprog G) 97 [jR r_4] H3 (.inl (some (jR r8))) H7 ∧
    (∀ a, r8 = some a → ∃ fs, job H7 a 7 fs) ∧
    (¬ i_3 = i_1 →
      jwp (jprog G) 358 Rt 11 [q_0, some (jI i_1), some (jI i_2), some (jI (i_3 + 1)), some (jR r_4), some (jR r8)] [] H7) ∧
    (¬ ¬ i_3 = i_1 →
      ∃ (a9 : Nat) (fs10 : List JVal), r8 = some a9 ∧ job H7 a9 7 fs10 ∧ /- X7_of -/ ∃ (x12 : Int32) (H11 : JHp), jok (jprog G) 357 [jR r8, jI i_2] H7 (.inl (some (jI x12))) H11 ∧
      Rt (.inl (some (jI x12))) H11))) :
  jwp (jprog G) 358 Rt 11 [q_0, some (jI i_1), some (jI i_2), some (jI i_3), some (jR r_4), q_5] [] H :=
  junf_wp (jprog_nf G) (stop := jmem [11]) (pX1_ofAnswer G) 4000 _ _ _ _ h
/-- UnheardBells answerOf(II)I @0 -/
theorem gX0_answerOf_0 (G : JG) {Rt : JRt} (this : Option Nat) (i_1 : Int32) (i_2 : Int32) {H : JHp} (h :
  ∃ (a1 : Nat) (fs2 : List JVal) (r3 : Option Nat), this = some a1 ∧ job H a1 0 fs2 ∧ jn fs2 1 = some (jR r3) ∧
  ∃ (a4 : Nat) (fs5 : List JVal) (r6 : Option Nat), r3 = some a4 ∧ job H a4 1 fs5 ∧ jn fs5 3 = some (jR r6) ∧
  ∃ (a7 : Nat) (fs8 : List JVal), r6 = some a7 ∧ job H a7 14 fs8 ∧ /- J7_size -/ ∃ (x10 : Int32) (H9 : JHp), jok (jprog G) 92 [jR r6] H (.inl (some (jI x10))) H9 ∧
  /- X0_isIn -/ ∃ (x12 : Int32) (H11 : JHp), jok (jprog G) 184 [jI i_1, jI 0, jI (x10 - (1 : Int32))] H9 (.inl (some (jI x12))) H11 ∧
  (x12 = 0 →
    Rt (.inl (some (jI (-1011)))) H11) ∧
  (¬ x12 = 0 →
    ∃ (a13 : Nat) (fs14 : List JVal) (r15 : Option Nat), this = some a13 ∧ job H11 a13 0 fs14 ∧ jn fs14 1 = some (jR r15) ∧
    ∃ (a16 : Nat) (fs17 : List JVal), r15 = some a16 ∧ job H11 a16 1 fs17 ∧ /- X1_ofAnswer -/ ∃ (x19 : Int32) (H18 : JHp), jok (jprog G) 358 [jR r15, jI i_1, jI i_2] H11 (.inl (some (jI x19))) H18 ∧
    Rt (.inl (some (jI x19))) H18)) :
  jwp (jprog G) 359 Rt 0 [some (jR this), some (jI i_1), some (jI i_2)] [] H :=
  junf_wp (jprog_nf G) (stop := jmem []) (pX0_answerOf G) 4000 _ _ _ _ h
/-- UnheardBells forecastAgain()I @0 -/
theorem gX0_forecastAgain_0 (G : JG) {Rt : JRt} (this : Option Nat) {H : JHp} (h :
  ∃ (a1 : Nat) (fs2 : List JVal) (r3 : Option Nat), this = some a1 ∧ job H a1 0 fs2 ∧ jn fs2 1 = some (jR r3) ∧
  ∃ (a4 : Nat) (fs5 : List JVal), r3 = some a4 ∧ job H a4 1 fs5 ∧ /- X1_forecastAgain -/ ∃ (x7 : Int32) (H6 : JHp), jok (jprog G) 163 [jR r3] H (.inl (some (jI x7))) H6 ∧
  Rt (.inl (some (jI x7))) H6) :
  jwp (jprog G) 361 Rt 0 [some (jR this)] [] H :=
  junf_wp (jprog_nf G) (stop := jmem []) (pX0_forecastAgain G) 4000 _ _ _ _ h
/-- UnheardBells forecast()I @0 -/
theorem gX0_forecast_0 (G : JG) {Rt : JRt} (this : Option Nat) {H : JHp} (h :
  ∃ (a1 : Nat) (fs2 : List JVal) (r3 : Option Nat), this = some a1 ∧ job H a1 0 fs2 ∧ jn fs2 1 = some (jR r3) ∧
  ∃ (a4 : Nat) (fs5 : List JVal), r3 = some a4 ∧ job H a4 1 fs5 ∧ /- X1_forecast -/ ∃ (x7 : Int32) (H6 : JHp), jok (jprog G) 143 [jR r3] H (.inl (some (jI x7))) H6 ∧
  Rt (.inl (some (jI x7))) H6) :
  jwp (jprog G) 364 Rt 0 [some (jR this)] [] H :=
  junf_wp (jprog_nf G) (stop := jmem []) (pX0_forecast G) 4000 _ _ _ _ h
/-- UnheardBells would(II)I @0 -/
theorem gX0_would_0 (G : JG) {Rt : JRt} (this : Option Nat) (i_1 : Int32) (i_2 : Int32) {H : JHp} (h :
  ∃ (a1 : Nat) (fs2 : List JVal) (r3 : Option Nat), this = some a1 ∧ job H a1 0 fs2 ∧ jn fs2 1 = some (jR r3) ∧
  ∃ (a4 : Nat) (fs5 : List JVal), r3 = some a4 ∧ job H a4 1 fs5 ∧ /- X1_isRope -/ ∃ (x7 : Int32) (H6 : JHp), jok (jprog G) 220 [jR r3, jI i_1] H (.inl (some (jI x7))) H6 ∧
  (¬ x7 = 0 →
    /- X0_isStrength -/ ∃ (x9 : Int32) (H8 : JHp), jok (jprog G) 258 [jI i_2] H6 (.inl (some (jI x9))) H8 ∧
    (¬ x9 = 0 →
      ∃ (a10 : Nat) (fs11 : List JVal) (r12 : Option Nat), this = some a10 ∧ job H8 a10 0 fs11 ∧ jn fs11 1 = some (jR r12) ∧
      ∃ (a13 : Nat) (fs14 : List JVal) (r15 : Option Nat), r12 = some a13 ∧ job H8 a13 1 fs14 ∧ jn fs14 0 = some (jR r15) ∧
      ∃ (a16 : Nat) (fs17 : List JVal), r15 = some a16 ∧ job H8 a16 11 fs17 ∧ /- J2_get -/ ∃ (r19 : Option Nat) (H18 : JHp), jok (jprog G) 132 [jR r15, jI i_1] H8 (.inl (some (jR r19))) H18 ∧
      (∀ a, r19 = some a → ∃ fs, job H18 a 4 fs) ∧
      ∃ (a20 : Nat) (fs21 : List JVal), r19 = some a20 ∧ job H18 a20 4 fs21 ∧ /- X4_wouldAnswer -/ ∃ (x23 : Int32) (H22 : JHp), jok (jprog G) 135 [jR r19, jI i_2] H18 (.inl (some (jI x23))) H22 ∧
      (x23 = 0 →
        Rt (.inl (some (jI 0))) H22) ∧
      (¬ x23 = 0 →
        Rt (.inl (some (jI 1))) H22)) ∧
    (¬ ¬ x9 = 0 →
      Rt (.inl (some (jI (-1012)))) H8)) ∧
  (¬ ¬ x7 = 0 →
    Rt (.inl (some (jI (-1011)))) H6)) :
  jwp (jprog G) 365 Rt 0 [some (jR this), some (jI i_1), some (jI i_2)] [] H :=
  junf_wp (jprog_nf G) (stop := jmem []) (pX0_would G) 4000 _ _ _ _ h
/-- UnheardBells$Pull of(I)I @0 -/
theorem gX6_of_0 (G : JG) {Rt : JRt} (this : Option Nat) (i_1 : Int32) {H : JHp} (h :
  (i_1 = 0 → ∃ (a1 : Nat) (fs2 : List JVal) (x3 : Int32), this = some a1 ∧ job H a1 6 fs2 ∧ jn fs2 0 = some (jI x3) ∧
    Rt (.inl (some (jI x3))) H) ∧
  (¬ i_1 = 0 → (i_1 = 1 → ∃ (a4 : Nat) (fs5 : List JVal) (x6 : Int32), this = some a4 ∧ job H a4 6 fs5 ∧ jn fs5 1 = some (jI x6) ∧
    Rt (.inl (some (jI x6))) H) ∧
  (¬ i_1 = 1 → (i_1 = 2 → ∃ (a7 : Nat) (fs8 : List JVal) (x9 : Int32), this = some a7 ∧ job H a7 6 fs8 ∧ jn fs8 2 = some (jI x9) ∧
    Rt (.inl (some (jI x9))) H) ∧
  (¬ i_1 = 2 → Rt (.inl (some (jI (-1012)))) H)))) :
  jwp (jprog G) 370 Rt 0 [some (jR this), some (jI i_1)] [] H :=
  junf_wp (jprog_nf G) (stop := jmem []) (pX6_of G) 4000 _ _ _ _ h
/-- UnheardBells waiting(II)I @0 -/
theorem gX0_waiting_0 (G : JG) {Rt : JRt} (this : Option Nat) (i_1 : Int32) (i_2 : Int32) {H : JHp} (h :
  ∃ (a1 : Nat) (fs2 : List JVal) (r3 : Option Nat), this = some a1 ∧ job H a1 0 fs2 ∧ jn fs2 1 = some (jR r3) ∧
  ∃ (a4 : Nat) (fs5 : List JVal), r3 = some a4 ∧ job H a4 1 fs5 ∧ /- X1_inOrder -/ ∃ (r7 : Option Nat) (H6 : JHp), jok (jprog G) 151 [jR r3] H (.inl (some (jR r7))) H6 ∧
  ∃ (a8 : Nat) (fs9 : List JVal), r7 = some a8 ∧ job H6 a8 27 fs9 ∧ /- J36_size -/ ∃ (x11 : Int32) (H10 : JHp), jok (jprog G) 243 [jR r7] H6 (.inl (some (jI x11))) H10 ∧
  /- X0_isIn -/ ∃ (x13 : Int32) (H12 : JHp), jok (jprog G) 184 [jI i_1, jI 0, jI (x11 - (1 : Int32))] H10 (.inl (some (jI x13))) H12 ∧
  (x13 = 0 →
    Rt (.inl (some (jI (-1011)))) H12) ∧
  (¬ x13 = 0 →
    ∃ (a14 : Nat) (fs15 : List JVal), r7 = some a14 ∧ job H12 a14 27 fs15 ∧ /- J36_get -/ ∃ (r17 : Option Nat) (H16 : JHp), jok (jprog G) 369 [jR r7, jI i_1] H12 (.inl (some (jR r17))) H16 ∧
    (∀ a, r17 = some a → ∃ fs, job H16 a 6 fs) ∧
    ∃ (a18 : Nat) (fs19 : List JVal), r17 = some a18 ∧ job H16 a18 6 fs19 ∧ /- X6_of -/ ∃ (x21 : Int32) (H20 : JHp), jok (jprog G) 370 [jR r17, jI i_2] H16 (.inl (some (jI x21))) H20 ∧
    Rt (.inl (some (jI x21))) H20)) :
  jwp (jprog G) 371 Rt 0 [some (jR this), some (jI i_1), some (jI i_2), none] [] H :=
  junf_wp (jprog_nf G) (stop := jmem []) (pX0_waiting G) 4000 _ _ _ _ h
/-- UnheardBells end()I @0 -/
theorem gX0_end_0 (G : JG) {Rt : JRt} (this : Option Nat) {H : JHp} (h :
  ∃ (a1 : Nat) (fs2 : List JVal) (r3 : Option Nat), this = some a1 ∧ job H a1 0 fs2 ∧ jn fs2 1 = some (jR r3) ∧
  ∃ (a4 : Nat) (fs5 : List JVal), r3 = some a4 ∧ job H a4 1 fs5 ∧ /- X1_copy -/ ∃ (r7 : Option Nat) (H6 : JHp), jok (jprog G) 101 [jR r3] H (.inl (some (jR r7))) H6 ∧
  ∃ (a8 : Nat) (fs9 : List JVal) (r10 : Option Nat), this = some a8 ∧ job H6 a8 0 fs9 ∧ jn fs9 1 = some (jR r10) ∧
  ∃ (a11 : Nat) (fs12 : List JVal), r10 = some a11 ∧ job H6 a11 1 fs12 ∧ /- X1_ends -/ ∃ (x14 : Int32) (H13 : JHp), jok (jprog G) 281 [jR r10] H6 (.inl (some (jI x14))) H13 ∧
  ∃ (a15 : Nat) (fs16 : List JVal), this = some a15 ∧ job H13 a15 0 fs16 ∧ /- X0_changed -/ ∃ (x18 : Int32) (H17 : JHp), jok (jprog G) 291 [jR this, jR r7, jI x14] H13 (.inl (some (jI x18))) H17 ∧
  Rt (.inl (some (jI x18))) H17) :
  jwp (jprog G) 373 Rt 0 [some (jR this), none] [] H :=
  junf_wp (jprog_nf G) (stop := jmem []) (pX0_end G) 4000 _ _ _ _ h
/-- UnheardBells hour()I @0 -/
theorem gX0_hour_0 (G : JG) {Rt : JRt} (this : Option Nat) {H : JHp} (h :
  ∃ (a1 : Nat) (fs2 : List JVal) (r3 : Option Nat), this = some a1 ∧ job H a1 0 fs2 ∧ jn fs2 1 = some (jR r3) ∧
  ∃ (a4 : Nat) (fs5 : List JVal), r3 = some a4 ∧ job H a4 1 fs5 ∧ /- X1_copy -/ ∃ (r7 : Option Nat) (H6 : JHp), jok (jprog G) 101 [jR r3] H (.inl (some (jR r7))) H6 ∧
  ∃ (a8 : Nat) (fs9 : List JVal) (r10 : Option Nat), this = some a8 ∧ job H6 a8 0 fs9 ∧ jn fs9 1 = some (jR r10) ∧
  ∃ (a11 : Nat) (fs12 : List JVal), r10 = some a11 ∧ job H6 a11 1 fs12 ∧ /- X1_ringsHour -/ ∃ (o15 : JOut) (H13 : JHp), jok (jprog G) 268 [jR r10] H6 o15 H13 ∧
  ((∃ x14 : Int32, o15 = (.inl (some (jI x14))) ∧
    ∃ (a18 : Nat) (fs19 : List JVal), this = some a18 ∧ job H13 a18 0 fs19 ∧ /- X0_changed -/ ∃ (x21 : Int32) (H20 : JHp), jok (jprog G) 291 [jR this, jR r7, jI x14] H13 (.inl (some (jI x21))) H20 ∧
    Rt (.inl (some (jI x21))) H20) ∨
   (∃ (e16 : Nat), o15 = .inr e16 ∧ ∃ (fs17 : List JVal), H13.1 e16 = some (true, jO 5 fs17) ∧ ∃ (a22 : Nat) (fs23 : List JVal), this = some a22 ∧ job H13 a22 0 fs23 ∧ /- X0_refused -/ ∃ (x25 : Int32) (H24 : JHp), jok (jprog G) 284 [jR this, jR (some e16)] H13 (.inl (some (jI x25))) H24 ∧
    Rt (.inl (some (jI x25))) H24))) :
  jwp (jprog G) 375 Rt 0 [some (jR this), none, none] [] H :=
  junf_wp (jprog_nf G) (stop := jmem []) (pX0_hour G) 4000 _ _ _ _ h
/-- UnheardBells ring()I @0 -/
theorem gX0_ring_0 (G : JG) {Rt : JRt} (this : Option Nat) {H : JHp} (h :
  ∃ (a1 : Nat) (fs2 : List JVal) (r3 : Option Nat), this = some a1 ∧ job H a1 0 fs2 ∧ jn fs2 1 = some (jR r3) ∧
  ∃ (a4 : Nat) (fs5 : List JVal), r3 = some a4 ∧ job H a4 1 fs5 ∧ /- X1_copy -/ ∃ (r7 : Option Nat) (H6 : JHp), jok (jprog G) 101 [jR r3] H (.inl (some (jR r7))) H6 ∧
  ∃ (a8 : Nat) (fs9 : List JVal) (r10 : Option Nat), this = some a8 ∧ job H6 a8 0 fs9 ∧ jn fs9 1 = some (jR r10) ∧
  ∃ (a11 : Nat) (fs12 : List JVal), r10 = some a11 ∧ job H6 a11 1 fs12 ∧ /- X1_ringsNext -/ ∃ (o15 : JOut) (H13 : JHp), jok (jprog G) 266 [jR r10] H6 o15 H13 ∧
  ((∃ x14 : Int32, o15 = (.inl (some (jI x14))) ∧
    ∃ (a18 : Nat) (fs19 : List JVal), this = some a18 ∧ job H13 a18 0 fs19 ∧ /- X0_changed -/ ∃ (x21 : Int32) (H20 : JHp), jok (jprog G) 291 [jR this, jR r7, jI x14] H13 (.inl (some (jI x21))) H20 ∧
    Rt (.inl (some (jI x21))) H20) ∨
   (∃ (e16 : Nat), o15 = .inr e16 ∧ ∃ (fs17 : List JVal), H13.1 e16 = some (true, jO 5 fs17) ∧ ∃ (a22 : Nat) (fs23 : List JVal), this = some a22 ∧ job H13 a22 0 fs23 ∧ /- X0_refused -/ ∃ (x25 : Int32) (H24 : JHp), jok (jprog G) 284 [jR this, jR (some e16)] H13 (.inl (some (jI x25))) H24 ∧
    Rt (.inl (some (jI x25))) H24))) :
  jwp (jprog G) 377 Rt 0 [some (jR this), none, none] [] H :=
  junf_wp (jprog_nf G) (stop := jmem []) (pX0_ring G) 4000 _ _ _ _ h
/-- UnheardBells cancel(I)I @0 -/
theorem gX0_cancel_0 (G : JG) {Rt : JRt} (this : Option Nat) (i_1 : Int32) {H : JHp} (h :
  ∃ (a1 : Nat) (fs2 : List JVal) (r3 : Option Nat), this = some a1 ∧ job H a1 0 fs2 ∧ jn fs2 1 = some (jR r3) ∧
  ∃ (a4 : Nat) (fs5 : List JVal), r3 = some a4 ∧ job H a4 1 fs5 ∧ /- X1_isRope -/ ∃ (x7 : Int32) (H6 : JHp), jok (jprog G) 220 [jR r3, jI i_1] H (.inl (some (jI x7))) H6 ∧
  (¬ x7 = 0 →
    ∃ (a8 : Nat) (fs9 : List JVal) (r10 : Option Nat), this = some a8 ∧ job H6 a8 0 fs9 ∧ jn fs9 1 = some (jR r10) ∧
    ∃ (a11 : Nat) (fs12 : List JVal), r10 = some a11 ∧ job H6 a11 1 fs12 ∧ /- X1_copy -/ ∃ (r14 : Option Nat) (H13 : JHp), jok (jprog G) 101 [jR r10] H6 (.inl (some (jR r14))) H13 ∧
    ∃ (a15 : Nat) (fs16 : List JVal) (r17 : Option Nat), this = some a15 ∧ job H13 a15 0 fs16 ∧ jn fs16 1 = some (jR r17) ∧
    ∃ (a18 : Nat) (fs19 : List JVal), r17 = some a18 ∧ job H13 a18 1 fs19 ∧ /- X1_cancels -/ ∃ (o22 : JOut) (H20 : JHp), jok (jprog G) 263 [jR r17, jI i_1] H13 o22 H20 ∧
    ((∃ x21 : Int32, o22 = (.inl (some (jI x21))) ∧
      ∃ (a25 : Nat) (fs26 : List JVal), this = some a25 ∧ job H20 a25 0 fs26 ∧ /- X0_changed -/ ∃ (x28 : Int32) (H27 : JHp), jok (jprog G) 291 [jR this, jR r14, jI x21] H20 (.inl (some (jI x28))) H27 ∧
      Rt (.inl (some (jI x28))) H27) ∨
     (∃ (e23 : Nat), o22 = .inr e23 ∧ ∃ (fs24 : List JVal), H20.1 e23 = some (true, jO 5 fs24) ∧ ∃ (a29 : Nat) (fs30 : List JVal), this = some a29 ∧ job H20 a29 0 fs30 ∧ /- X0_refused -/ ∃ (x32 : Int32) (H31 : JHp), jok (jprog G) 284 [jR this, jR (some e23)] H20 (.inl (some (jI x32))) H31 ∧
      Rt (.inl (some (jI x32))) H31))) ∧
  (¬ ¬ x7 = 0 →
    Rt (.inl (some (jI (-1011)))) H6)) :
  jwp (jprog G) 379 Rt 0 [some (jR this), some (jI i_1), none, none] [] H :=
  junf_wp (jprog_nf G) (stop := jmem []) (pX0_cancel G) 4000 _ _ _ _ h
/-- UnheardBells pull(III)I @0 -/
theorem gX0_pull_0 (G : JG) {Rt : JRt} (this : Option Nat) (i_1 : Int32) (i_2 : Int32) (i_3 : Int32) {H : JHp} (h :
  ∃ (a1 : Nat) (fs2 : List JVal) (r3 : Option Nat), this = some a1 ∧ job H a1 0 fs2 ∧ jn fs2 1 = some (jR r3) ∧
  ∃ (a4 : Nat) (fs5 : List JVal), r3 = some a4 ∧ job H a4 1 fs5 ∧ /- X1_isRope -/ ∃ (x7 : Int32) (H6 : JHp), jok (jprog G) 220 [jR r3, jI i_1] H (.inl (some (jI x7))) H6 ∧
  (¬ x7 = 0 →
    /- X0_isHour -/ ∃ (x9 : Int32) (H8 : JHp), jok (jprog G) 257 [jI i_2] H6 (.inl (some (jI x9))) H8 ∧
    (x9 = 0 →
      Rt (.inl (some (jI (-1012)))) H8) ∧
    (¬ x9 = 0 →
      /- X0_isStrength -/ ∃ (x11 : Int32) (H10 : JHp), jok (jprog G) 258 [jI i_3] H8 (.inl (some (jI x11))) H10 ∧
      (¬ x11 = 0 →
        ∃ (a12 : Nat) (fs13 : List JVal) (r14 : Option Nat), this = some a12 ∧ job H10 a12 0 fs13 ∧ jn fs13 1 = some (jR r14) ∧
        ∃ (a15 : Nat) (fs16 : List JVal), r14 = some a15 ∧ job H10 a15 1 fs16 ∧ /- X1_copy -/ ∃ (r18 : Option Nat) (H17 : JHp), jok (jprog G) 101 [jR r14] H10 (.inl (some (jR r18))) H17 ∧
        ∃ (a19 : Nat) (fs20 : List JVal) (r21 : Option Nat), this = some a19 ∧ job H17 a19 0 fs20 ∧ jn fs20 1 = some (jR r21) ∧
        ∃ (a22 : Nat) (fs23 : List JVal), r21 = some a22 ∧ job H17 a22 1 fs23 ∧ /- X1_waits -/ ∃ (o26 : JOut) (H24 : JHp), jok (jprog G) 260 [jR r21, jI i_1, jI i_2, jI i_3] H17 o26 H24 ∧
        ((∃ x25 : Int32, o26 = (.inl (some (jI x25))) ∧
          ∃ (a29 : Nat) (fs30 : List JVal), this = some a29 ∧ job H24 a29 0 fs30 ∧ /- X0_changed -/ ∃ (x32 : Int32) (H31 : JHp), jok (jprog G) 291 [jR this, jR r18, jI x25] H24 (.inl (some (jI x32))) H31 ∧
          Rt (.inl (some (jI x32))) H31) ∨
         (∃ (e27 : Nat), o26 = .inr e27 ∧ ∃ (fs28 : List JVal), H24.1 e27 = some (true, jO 5 fs28) ∧ ∃ (a33 : Nat) (fs34 : List JVal), this = some a33 ∧ job H24 a33 0 fs34 ∧ /- X0_refused -/ ∃ (x36 : Int32) (H35 : JHp), jok (jprog G) 284 [jR this, jR (some e27)] H24 (.inl (some (jI x36))) H35 ∧
          Rt (.inl (some (jI x36))) H35))) ∧
      (¬ ¬ x11 = 0 →
        Rt (.inl (some (jI (-1012)))) H10))) ∧
  (¬ ¬ x7 = 0 →
    Rt (.inl (some (jI (-1011)))) H6)) :
  jwp (jprog G) 381 Rt 0 [some (jR this), some (jI i_1), some (jI i_2), some (jI i_3), none, none] [] H :=
  junf_wp (jprog_nf G) (stop := jmem []) (pX0_pull G) 4000 _ _ _ _ h
/-- UnheardBells$Machine ofRope(II)I @0 -/
theorem gX1_ofRope_0 (G : JG) {Rt : JRt} (this : Option Nat) (i_1 : Int32) (i_2 : Int32) {H : JHp} (h :
  ∃ (a1 : Nat) (fs2 : List JVal) (r3 : Option Nat), this = some a1 ∧ job H a1 1 fs2 ∧ jn fs2 0 = some (jR r3) ∧
  ∃ (a4 : Nat) (fs5 : List JVal), r3 = some a4 ∧ job H a4 11 fs5 ∧ /- J2_get -/ ∃ (r7 : Option Nat) (H6 : JHp), jok (jprog G) 132 [jR r3, jI i_1] H (.inl (some (jR r7))) H6 ∧
  (∀ a, r7 = some a → ∃ fs, job H6 a 4 fs) ∧
  (i_2 = 0 → ∃ (a8 : Nat) (fs9 : List JVal) (x10 : Int32), r7 = some a8 ∧ job H6 a8 4 fs9 ∧ jn fs9 0 = some (jI x10) ∧
    Rt (.inl (some (jI x10))) H6) ∧
  (¬ i_2 = 0 → (i_2 = 1 → ∃ (a11 : Nat) (fs12 : List JVal) (x13 : Int32), r7 = some a11 ∧ job H6 a11 4 fs12 ∧ jn fs12 1 = some (jI x13) ∧
    (x13 = 0 →
      Rt (.inl (some (jI 0))) H6) ∧
    (¬ x13 = 0 →
      Rt (.inl (some (jI 1))) H6)) ∧
  (¬ i_2 = 1 → (i_2 = 2 → ∃ (a14 : Nat) (fs15 : List JVal) (x16 : Int32), r7 = some a14 ∧ job H6 a14 4 fs15 ∧ jn fs15 2 = some (jI x16) ∧
    Rt (.inl (some (jI x16))) H6) ∧
  (¬ i_2 = 2 → (i_2 = 3 → ∃ (a17 : Nat) (fs18 : List JVal) (x19 : Int32), r7 = some a17 ∧ job H6 a17 4 fs18 ∧ jn fs18 3 = some (jI x19) ∧
    Rt (.inl (some (jI x19))) H6) ∧
  (¬ i_2 = 3 → (i_2 = 4 → ∃ (a20 : Nat) (fs21 : List JVal) (x22 : Int32), r7 = some a20 ∧ job H6 a20 4 fs21 ∧ jn fs21 4 = some (jI x22) ∧
    Rt (.inl (some (jI x22))) H6) ∧
  (¬ i_2 = 4 → (i_2 = 5 → ∃ (a23 : Nat) (fs24 : List JVal) (x25 : Int32), r7 = some a23 ∧ job H6 a23 4 fs24 ∧ jn fs24 5 = some (jI x25) ∧
    Rt (.inl (some (jI x25))) H6) ∧
  (¬ i_2 = 5 → (i_2 = 6 → ∃ (a26 : Nat) (fs27 : List JVal), this = some a26 ∧ job H6 a26 1 fs27 ∧ /- X1_waitingOf -/ ∃ (x29 : Int32) (H28 : JHp), jok (jprog G) 261 [jR this, jI i_1] H6 (.inl (some (jI x29))) H28 ∧
    Rt (.inl (some (jI x29))) H28) ∧
  (¬ i_2 = 6 → Rt (.inl (some (jI (-1012)))) H6)))))))) :
  jwp (jprog G) 383 Rt 0 [some (jR this), some (jI i_1), some (jI i_2), none] [] H :=
  junf_wp (jprog_nf G) (stop := jmem []) (pX1_ofRope G) 4000 _ _ _ _ h
/-- UnheardBells ropeOf(II)I @0 -/
theorem gX0_ropeOf_0 (G : JG) {Rt : JRt} (this : Option Nat) (i_1 : Int32) (i_2 : Int32) {H : JHp} (h :
  ∃ (a1 : Nat) (fs2 : List JVal) (r3 : Option Nat), this = some a1 ∧ job H a1 0 fs2 ∧ jn fs2 1 = some (jR r3) ∧
  ∃ (a4 : Nat) (fs5 : List JVal), r3 = some a4 ∧ job H a4 1 fs5 ∧ /- X1_isRope -/ ∃ (x7 : Int32) (H6 : JHp), jok (jprog G) 220 [jR r3, jI i_1] H (.inl (some (jI x7))) H6 ∧
  (x7 = 0 →
    Rt (.inl (some (jI (-1011)))) H6) ∧
  (¬ x7 = 0 →
    ∃ (a8 : Nat) (fs9 : List JVal) (r10 : Option Nat), this = some a8 ∧ job H6 a8 0 fs9 ∧ jn fs9 1 = some (jR r10) ∧
    ∃ (a11 : Nat) (fs12 : List JVal), r10 = some a11 ∧ job H6 a11 1 fs12 ∧ /- X1_ofRope -/ ∃ (x14 : Int32) (H13 : JHp), jok (jprog G) 383 [jR r10, jI i_1, jI i_2] H6 (.inl (some (jI x14))) H13 ∧
    Rt (.inl (some (jI x14))) H13)) :
  jwp (jprog G) 384 Rt 0 [some (jR this), some (jI i_1), some (jI i_2)] [] H :=
  junf_wp (jprog_nf G) (stop := jmem []) (pX0_ropeOf G) 4000 _ _ _ _ h
/-- UnheardBells oil(II)I @0 -/
theorem gX0_oil_0 (G : JG) {Rt : JRt} (this : Option Nat) (i_1 : Int32) (i_2 : Int32) {H : JHp} (h :
  ∃ (a1 : Nat) (fs2 : List JVal) (r3 : Option Nat), this = some a1 ∧ job H a1 0 fs2 ∧ jn fs2 1 = some (jR r3) ∧
  ∃ (a4 : Nat) (fs5 : List JVal), r3 = some a4 ∧ job H a4 1 fs5 ∧ /- X1_isRope -/ ∃ (x7 : Int32) (H6 : JHp), jok (jprog G) 220 [jR r3, jI i_1] H (.inl (some (jI x7))) H6 ∧
  (¬ x7 = 0 →
    /- X0_isMuch -/ ∃ (x9 : Int32) (H8 : JHp), jok (jprog G) 247 [jI i_2] H6 (.inl (some (jI x9))) H8 ∧
    (¬ x9 = 0 →
      ∃ (a10 : Nat) (fs11 : List JVal) (r12 : Option Nat), this = some a10 ∧ job H8 a10 0 fs11 ∧ jn fs11 1 = some (jR r12) ∧
      ∃ (a13 : Nat) (fs14 : List JVal), r12 = some a13 ∧ job H8 a13 1 fs14 ∧ /- X1_copy -/ ∃ (r16 : Option Nat) (H15 : JHp), jok (jprog G) 101 [jR r12] H8 (.inl (some (jR r16))) H15 ∧
      ∃ (a17 : Nat) (fs18 : List JVal) (r19 : Option Nat), this = some a17 ∧ job H15 a17 0 fs18 ∧ jn fs18 1 = some (jR r19) ∧
      ∃ (a20 : Nat) (fs21 : List JVal), r19 = some a20 ∧ job H15 a20 1 fs21 ∧ /- X1_oils -/ ∃ (o24 : JOut) (H22 : JHp), jok (jprog G) 252 [jR r19, jI i_1, jI i_2] H15 o24 H22 ∧
      ((∃ x23 : Int32, o24 = (.inl (some (jI x23))) ∧
        ∃ (a27 : Nat) (fs28 : List JVal), this = some a27 ∧ job H22 a27 0 fs28 ∧ /- X0_changed -/ ∃ (x30 : Int32) (H29 : JHp), jok (jprog G) 291 [jR this, jR r16, jI x23] H22 (.inl (some (jI x30))) H29 ∧
        Rt (.inl (some (jI x30))) H29) ∨
       (∃ (e25 : Nat), o24 = .inr e25 ∧ ∃ (fs26 : List JVal), H22.1 e25 = some (true, jO 5 fs26) ∧ ∃ (a31 : Nat) (fs32 : List JVal), this = some a31 ∧ job H22 a31 0 fs32 ∧ /- X0_refused -/ ∃ (x34 : Int32) (H33 : JHp), jok (jprog G) 284 [jR this, jR (some e25)] H22 (.inl (some (jI x34))) H33 ∧
        Rt (.inl (some (jI x34))) H33))) ∧
    (¬ ¬ x9 = 0 →
      Rt (.inl (some (jI (-1012)))) H8)) ∧
  (¬ ¬ x7 = 0 →
    Rt (.inl (some (jI (-1011)))) H6)) :
  jwp (jprog G) 386 Rt 0 [some (jR this), some (jI i_1), some (jI i_2), none, none] [] H :=
  junf_wp (jprog_nf G) (stop := jmem []) (pX0_oil G) 4000 _ _ _ _ h
/-- UnheardBells sensor(II)I @0 -/
theorem gX0_sensor_0 (G : JG) {Rt : JRt} (this : Option Nat) (i_1 : Int32) (i_2 : Int32) {H : JHp} (h :
  ∃ (a1 : Nat) (fs2 : List JVal) (r3 : Option Nat), this = some a1 ∧ job H a1 0 fs2 ∧ jn fs2 1 = some (jR r3) ∧
  ∃ (a4 : Nat) (fs5 : List JVal), r3 = some a4 ∧ job H a4 1 fs5 ∧ /- X1_isRope -/ ∃ (x7 : Int32) (H6 : JHp), jok (jprog G) 220 [jR r3, jI i_1] H (.inl (some (jI x7))) H6 ∧
  (¬ x7 = 0 →
    /- X0_isIn -/ ∃ (x9 : Int32) (H8 : JHp), jok (jprog G) 184 [jI i_2, jI 0, jI 1] H6 (.inl (some (jI x9))) H8 ∧
    (¬ x9 = 0 →
      ∃ (a10 : Nat) (fs11 : List JVal) (r12 : Option Nat), this = some a10 ∧ job H8 a10 0 fs11 ∧ jn fs11 1 = some (jR r12) ∧
      ∃ (a13 : Nat) (fs14 : List JVal), r12 = some a13 ∧ job H8 a13 1 fs14 ∧ /- X1_copy -/ ∃ (r16 : Option Nat) (H15 : JHp), jok (jprog G) 101 [jR r12] H8 (.inl (some (jR r16))) H15 ∧
      ∃ (a17 : Nat) (fs18 : List JVal) (r19 : Option Nat), this = some a17 ∧ job H15 a17 0 fs18 ∧ jn fs18 1 = some (jR r19) ∧
      (¬ i_2 = (1 : Int32) →
        ∃ (a20 : Nat) (fs21 : List JVal), r19 = some a20 ∧ job H15 a20 1 fs21 ∧ /- X1_puts -/ ∃ (o24 : JOut) (H22 : JHp), jok (jprog G) 256 [jR r19, jI i_1, jI 0] H15 o24 H22 ∧
        ((∃ x23 : Int32, o24 = (.inl (some (jI x23))) ∧
          ∃ (a27 : Nat) (fs28 : List JVal), this = some a27 ∧ job H22 a27 0 fs28 ∧ /- X0_changed -/ ∃ (x30 : Int32) (H29 : JHp), jok (jprog G) 291 [jR this, jR r16, jI x23] H22 (.inl (some (jI x30))) H29 ∧
          Rt (.inl (some (jI x30))) H29) ∨
         (∃ (e25 : Nat), o24 = .inr e25 ∧ ∃ (fs26 : List JVal), H22.1 e25 = some (true, jO 5 fs26) ∧ ∃ (a31 : Nat) (fs32 : List JVal), this = some a31 ∧ job H22 a31 0 fs32 ∧ /- X0_refused -/ ∃ (x34 : Int32) (H33 : JHp), jok (jprog G) 284 [jR this, jR (some e25)] H22 (.inl (some (jI x34))) H33 ∧
          Rt (.inl (some (jI x34))) H33))) ∧
      (¬ ¬ i_2 = (1 : Int32) →
        ∃ (a35 : Nat) (fs36 : List JVal), r19 = some a35 ∧ job H15 a35 1 fs36 ∧ /- X1_puts -/ ∃ (o39 : JOut) (H37 : JHp), jok (jprog G) 256 [jR r19, jI i_1, jI 1] H15 o39 H37 ∧
        ((∃ x38 : Int32, o39 = (.inl (some (jI x38))) ∧
          ∃ (a42 : Nat) (fs43 : List JVal), this = some a42 ∧ job H37 a42 0 fs43 ∧ /- X0_changed -/ ∃ (x45 : Int32) (H44 : JHp), jok (jprog G) 291 [jR this, jR r16, jI x38] H37 (.inl (some (jI x45))) H44 ∧
          Rt (.inl (some (jI x45))) H44) ∨
         (∃ (e40 : Nat), o39 = .inr e40 ∧ ∃ (fs41 : List JVal), H37.1 e40 = some (true, jO 5 fs41) ∧ ∃ (a46 : Nat) (fs47 : List JVal), this = some a46 ∧ job H37 a46 0 fs47 ∧ /- X0_refused -/ ∃ (x49 : Int32) (H48 : JHp), jok (jprog G) 284 [jR this, jR (some e40)] H37 (.inl (some (jI x49))) H48 ∧
          Rt (.inl (some (jI x49))) H48)))) ∧
    (¬ ¬ x9 = 0 →
      Rt (.inl (some (jI (-1012)))) H8)) ∧
  (¬ ¬ x7 = 0 →
    Rt (.inl (some (jI (-1011)))) H6)) :
  jwp (jprog G) 388 Rt 0 [some (jR this), some (jI i_1), some (jI i_2), none, none] [] H :=
  junf_wp (jprog_nf G) (stop := jmem []) (pX0_sensor G) 4000 _ _ _ _ h
/-- UnheardBells move(II)I @0 -/
theorem gX0_move_0 (G : JG) {Rt : JRt} (this : Option Nat) (i_1 : Int32) (i_2 : Int32) {H : JHp} (h :
  ∃ (a1 : Nat) (fs2 : List JVal) (r3 : Option Nat), this = some a1 ∧ job H a1 0 fs2 ∧ jn fs2 1 = some (jR r3) ∧
  ∃ (a4 : Nat) (fs5 : List JVal), r3 = some a4 ∧ job H a4 1 fs5 ∧ /- X1_isRope -/ ∃ (x7 : Int32) (H6 : JHp), jok (jprog G) 220 [jR r3, jI i_1] H (.inl (some (jI x7))) H6 ∧
  (¬ x7 = 0 →
    /- X0_isParish -/ ∃ (x9 : Int32) (H8 : JHp), jok (jprog G) 253 [jI i_2] H6 (.inl (some (jI x9))) H8 ∧
    (¬ x9 = 0 →
      ∃ (a10 : Nat) (fs11 : List JVal) (r12 : Option Nat), this = some a10 ∧ job H8 a10 0 fs11 ∧ jn fs11 1 = some (jR r12) ∧
      ∃ (a13 : Nat) (fs14 : List JVal), r12 = some a13 ∧ job H8 a13 1 fs14 ∧ /- X1_copy -/ ∃ (r16 : Option Nat) (H15 : JHp), jok (jprog G) 101 [jR r12] H8 (.inl (some (jR r16))) H15 ∧
      ∃ (a17 : Nat) (fs18 : List JVal) (r19 : Option Nat), this = some a17 ∧ job H15 a17 0 fs18 ∧ jn fs18 1 = some (jR r19) ∧
      ∃ (a20 : Nat) (fs21 : List JVal), r19 = some a20 ∧ job H15 a20 1 fs21 ∧ /- X1_moves -/ ∃ (o24 : JOut) (H22 : JHp), jok (jprog G) 254 [jR r19, jI i_1, jI i_2] H15 o24 H22 ∧
      ((∃ x23 : Int32, o24 = (.inl (some (jI x23))) ∧
        ∃ (a27 : Nat) (fs28 : List JVal), this = some a27 ∧ job H22 a27 0 fs28 ∧ /- X0_changed -/ ∃ (x30 : Int32) (H29 : JHp), jok (jprog G) 291 [jR this, jR r16, jI x23] H22 (.inl (some (jI x30))) H29 ∧
        Rt (.inl (some (jI x30))) H29) ∨
       (∃ (e25 : Nat), o24 = .inr e25 ∧ ∃ (fs26 : List JVal), H22.1 e25 = some (true, jO 5 fs26) ∧ ∃ (a31 : Nat) (fs32 : List JVal), this = some a31 ∧ job H22 a31 0 fs32 ∧ /- X0_refused -/ ∃ (x34 : Int32) (H33 : JHp), jok (jprog G) 284 [jR this, jR (some e25)] H22 (.inl (some (jI x34))) H33 ∧
        Rt (.inl (some (jI x34))) H33))) ∧
    (¬ ¬ x9 = 0 →
      Rt (.inl (some (jI (-1012)))) H8)) ∧
  (¬ ¬ x7 = 0 →
    Rt (.inl (some (jI (-1011)))) H6)) :
  jwp (jprog G) 390 Rt 0 [some (jR this), some (jI i_1), some (jI i_2), none, none] [] H :=
  junf_wp (jprog_nf G) (stop := jmem []) (pX0_move G) 4000 _ _ _ _ h
/-- UnheardBells rope(I)I @0 -/
theorem gX0_rope_0 (G : JG) {Rt : JRt} (this : Option Nat) (i_1 : Int32) {H : JHp} (h :
  /- X0_isParish -/ ∃ (x2 : Int32) (H1 : JHp), jok (jprog G) 253 [jI i_1] H (.inl (some (jI x2))) H1 ∧
  (¬ x2 = 0 →
    ∃ (a3 : Nat) (fs4 : List JVal) (r5 : Option Nat), this = some a3 ∧ job H1 a3 0 fs4 ∧ jn fs4 1 = some (jR r5) ∧
    ∃ (a6 : Nat) (fs7 : List JVal), r5 = some a6 ∧ job H1 a6 1 fs7 ∧ /- X1_copy -/ ∃ (r9 : Option Nat) (H8 : JHp), jok (jprog G) 101 [jR r5] H1 (.inl (some (jR r9))) H8 ∧
    ∃ (a10 : Nat) (fs11 : List JVal) (r12 : Option Nat), this = some a10 ∧ job H8 a10 0 fs11 ∧ jn fs11 1 = some (jR r12) ∧
    ∃ (a13 : Nat) (fs14 : List JVal), r12 = some a13 ∧ job H8 a13 1 fs14 ∧ /- X1_brings -/ ∃ (o17 : JOut) (H15 : JHp), jok (jprog G) 265 [jR r12, jI i_1] H8 o17 H15 ∧
    ((∃ x16 : Int32, o17 = (.inl (some (jI x16))) ∧
      ∃ (a20 : Nat) (fs21 : List JVal), this = some a20 ∧ job H15 a20 0 fs21 ∧ /- X0_changed -/ ∃ (x23 : Int32) (H22 : JHp), jok (jprog G) 291 [jR this, jR r9, jI x16] H15 (.inl (some (jI x23))) H22 ∧
      Rt (.inl (some (jI x23))) H22) ∨
     (∃ (e18 : Nat), o17 = .inr e18 ∧ ∃ (fs19 : List JVal), H15.1 e18 = some (true, jO 5 fs19) ∧ ∃ (a24 : Nat) (fs25 : List JVal), this = some a24 ∧ job H15 a24 0 fs25 ∧ /- X0_refused -/ ∃ (x27 : Int32) (H26 : JHp), jok (jprog G) 284 [jR this, jR (some e18)] H15 (.inl (some (jI x27))) H26 ∧
      Rt (.inl (some (jI x27))) H26))) ∧
  (¬ ¬ x2 = 0 →
    Rt (.inl (some (jI (-1012)))) H1)) :
  jwp (jprog G) 392 Rt 0 [some (jR this), some (jI i_1), none, none] [] H :=
  junf_wp (jprog_nf G) (stop := jmem []) (pX0_rope G) 4000 _ _ _ _ h

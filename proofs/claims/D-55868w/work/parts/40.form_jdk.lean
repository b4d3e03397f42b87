/-! wp formulas (by program) -/
set_option maxRecDepth 100000
/-- java/util/AbstractCollection <init>()V @0 -/
theorem gJ0_init__J2_0 (G : JG) {Rt : JRt} (this : Option Nat) {H : JHp} (h :
  ∃ a1 : Nat, this = some a1 ∧
  Rt (.inl none) H) :
  jwp (jprog G) 0 Rt 0 [some (jR this)] [] H :=
  junf_wp (jprog_nf G) (stop := jmem []) (pJ0_init__J2 G) 4000 _ _ _ _ h
/-- java/util/AbstractList <init>()V @0 -/
theorem gJ1_init__J2_0 (G : JG) {Rt : JRt} (this : Option Nat) {H : JHp} (h :
  ∃ a1 : Nat, this = some a1 ∧ /- J0_init__J2 -/ ∃ H2 : JHp, jok (jprog G) 0 [jR this] H (.inl none) H2 ∧
  ∃ (a3 : Nat) (fs4 : List JVal) (v5 : JVal), this = some a3 ∧ H2.1 a3 = some (true, jO 11 fs4) ∧ jn fs4 0 = some v5 ∧
  Rt (.inl none) (jup H2 a3 (jO 11 (jset fs4 0 (jI 0))))) :
  jwp (jprog G) 1 Rt 0 [some (jR this)] [] H :=
  junf_wp (jprog_nf G) (stop := jmem []) (pJ1_init__J2 G) 4000 _ _ _ _ h
/-- java/util/ArrayList <init>(I)V @0 -/
theorem gJ2_init_0 (G : JG) {Rt : JRt} (this : Option Nat) (i_1 : Int32) {H : JHp} (h :
  ∃ a1 : Nat, this = some a1 ∧ /- J1_init__J2 -/ ∃ H2 : JHp, jok (jprog G) 1 [jR this] H (.inl none) H2 ∧
  (i_1 ≤ 0 →
    (¬ i_1 = 0 →
      False) ∧
    (¬ ¬ i_1 = 0 →
      ∃ (a3 : Nat) (fs4 : List JVal) (v5 : JVal), this = some a3 ∧ H2.1 a3 = some (true, jO 11 fs4) ∧ jn fs4 1 = some v5 ∧
      Rt (.inl none) (jup H2 a3 (jO 11 (jset fs4 1 (jR (G.2 0))))))) ∧
  (¬ i_1 ≤ 0 →
    ¬ i_1 < 0 ∧ (i_1).toNatClampNeg ≤ 65536 ∧
    ∃ (a6 : Nat) (fs7 : List JVal) (v8 : JVal), this = some a6 ∧ (jnew H2 (jA 3 (aR (i_1).toNatClampNeg (fun _ => none))) (i_1).toNatClampNeg).1 a6 = some (true, jO 11 fs7) ∧ jn fs7 1 = some v8 ∧
    Rt (.inl none) (jup (jnew H2 (jA 3 (aR (i_1).toNatClampNeg (fun _ => none))) (i_1).toNatClampNeg) a6 (jO 11 (jset fs7 1 (jR (some H2.2.1))))))) :
  jwp (jprog G) 2 Rt 0 [some (jR this), some (jI i_1)] [] H :=
  junf_wp (jprog_nf G) (stop := jmem []) (pJ2_init G) 4000 _ _ _ _ h
/-- java/util/AbstractCollection <init>()V @0 -/
theorem gJ0_init__J4_0 (G : JG) {Rt : JRt} (this : Option Nat) {H : JHp} (h :
  ∃ a1 : Nat, this = some a1 ∧
  Rt (.inl none) H) :
  jwp (jprog G) 4 Rt 0 [some (jR this)] [] H :=
  junf_wp (jprog_nf G) (stop := jmem []) (pJ0_init__J4 G) 4000 _ _ _ _ h
/-- java/util/AbstractQueue <init>()V @0 -/
theorem gJ3_init__J4_0 (G : JG) {Rt : JRt} (this : Option Nat) {H : JHp} (h :
  ∃ a1 : Nat, this = some a1 ∧ /- J0_init__J4 -/ ∃ H2 : JHp, jok (jprog G) 4 [jR this] H (.inl none) H2 ∧
  Rt (.inl none) H2) :
  jwp (jprog G) 5 Rt 0 [some (jR this)] [] H :=
  junf_wp (jprog_nf G) (stop := jmem []) (pJ3_init__J4 G) 4000 _ _ _ _ h
/-- java/util/PriorityQueue <init>(ILjava/util/Comparator;)V @0 -/
theorem gJ4_init_2_0 (G : JG) {Rt : JRt} (this : Option Nat) (i_1 : Int32) (r_2 : Option Nat) {H : JHp} (h :
  ∃ a1 : Nat, this = some a1 ∧ /- J3_init__J4 -/ ∃ H2 : JHp, jok (jprog G) 5 [jR this] H (.inl none) H2 ∧
  ((1 : Int32) ≤ i_1 →
    ¬ i_1 < 0 ∧ (i_1).toNatClampNeg ≤ 65536 ∧
    ∃ (a3 : Nat) (fs4 : List JVal) (v5 : JVal), this = some a3 ∧ (jnew H2 (jA 3 (aR (i_1).toNatClampNeg (fun _ => none))) (i_1).toNatClampNeg).1 a3 = some (true, jO 12 fs4) ∧ jn fs4 0 = some v5 ∧
    ∃ (a6 : Nat) (fs7 : List JVal) (v8 : JVal), this = some a6 ∧ (jup (jnew H2 (jA 3 (aR (i_1).toNatClampNeg (fun _ => none))) (i_1).toNatClampNeg) a3 (jO 12 (jset fs4 0 (jR (some H2.2.1))))).1 a6 = some (true, jO 12 fs7) ∧ jn fs7 2 = some v8 ∧
    Rt (.inl none) (jup (jup (jnew H2 (jA 3 (aR (i_1).toNatClampNeg (fun _ => none))) (i_1).toNatClampNeg) a3 (jO 12 (jset fs4 0 (jR (some H2.2.1))))) a6 (jO 12 (jset fs7 2 (jR r_2))))) ∧
  (¬ (1 : Int32) ≤ i_1 →
    False)) :
  jwp (jprog G) 6 Rt 0 [some (jR this), some (jI i_1), some (jR r_2)] [] H :=
  junf_wp (jprog_nf G) (stop := jmem []) (pJ4_init_2 G) 4000 _ _ _ _ h
/-- java/util/PriorityQueue <init>(Ljava/util/Comparator;)V @0 -/
theorem gJ4_init_0 (G : JG) {Rt : JRt} (this : Option Nat) (r_1 : Option Nat) {H : JHp} (h :
  ∃ a1 : Nat, this = some a1 ∧ /- J4_init_2 -/ ∃ H2 : JHp, jok (jprog G) 6 [jR this, jI 11, jR r_1] H (.inl none) H2 ∧
  Rt (.inl none) H2) :
  jwp (jprog G) 7 Rt 0 [some (jR this), some (jR r_1)] [] H :=
  junf_wp (jprog_nf G) (stop := jmem []) (pJ4_init G) 4000 _ _ _ _ h
/-- java/util/AbstractMap <init>()V @0 -/
theorem gJ5_init__J6_0 (G : JG) {Rt : JRt} (this : Option Nat) {H : JHp} (h :
  ∃ a1 : Nat, this = some a1 ∧
  Rt (.inl none) H) :
  jwp (jprog G) 8 Rt 0 [some (jR this)] [] H :=
  junf_wp (jprog_nf G) (stop := jmem []) (pJ5_init__J6 G) 4000 _ _ _ _ h
/-- java/util/TreeMap <init>()V @0 -/
theorem gJ6_init_0 (G : JG) {Rt : JRt} (this : Option Nat) {H : JHp} (h :
  ∃ a1 : Nat, this = some a1 ∧ /- J5_init__J6 -/ ∃ H2 : JHp, jok (jprog G) 8 [jR this] H (.inl none) H2 ∧
  ∃ (a3 : Nat) (fs4 : List JVal) (v5 : JVal), this = some a3 ∧ H2.1 a3 = some (true, jO 13 fs4) ∧ jn fs4 4 = some v5 ∧
  ∃ (a6 : Nat) (fs7 : List JVal) (v8 : JVal), this = some a6 ∧ (jup H2 a3 (jO 13 (jset fs4 4 (jI 0)))).1 a6 = some (true, jO 13 fs7) ∧ jn fs7 5 = some v8 ∧
  ∃ (a9 : Nat) (fs10 : List JVal) (v11 : JVal), this = some a9 ∧ (jup (jup H2 a3 (jO 13 (jset fs4 4 (jI 0)))) a6 (jO 13 (jset fs7 5 (jI 0)))).1 a9 = some (true, jO 13 fs10) ∧ jn fs10 2 = some v11 ∧
  Rt (.inl none) (jup (jup (jup H2 a3 (jO 13 (jset fs4 4 (jI 0)))) a6 (jO 13 (jset fs7 5 (jI 0)))) a9 (jO 13 (jset fs10 2 (jR none))))) :
  jwp (jprog G) 9 Rt 0 [some (jR this)] [] H :=
  junf_wp (jprog_nf G) (stop := jmem []) (pJ6_init G) 4000 _ _ _ _ h
/-- java/util/AbstractCollection <init>()V @0 -/
theorem gJ0_init__J7_0 (G : JG) {Rt : JRt} (this : Option Nat) {H : JHp} (h :
  ∃ a1 : Nat, this = some a1 ∧
  Rt (.inl none) H) :
  jwp (jprog G) 10 Rt 0 [some (jR this)] [] H :=
  junf_wp (jprog_nf G) (stop := jmem []) (pJ0_init__J7 G) 4000 _ _ _ _ h
/-- java/util/ArrayDeque <init>()V @0 -/
theorem gJ7_init_0 (G : JG) {Rt : JRt} (this : Option Nat) {H : JHp} (h :
  ∃ a1 : Nat, this = some a1 ∧ /- J0_init__J7 -/ ∃ H2 : JHp, jok (jprog G) 10 [jR this] H (.inl none) H2 ∧
  ¬ (17 : Int32) < 0 ∧ ((17 : Int32)).toNatClampNeg ≤ 65536 ∧
  ∃ (a3 : Nat) (fs4 : List JVal) (v5 : JVal), this = some a3 ∧ (jnew H2 (jA 3 (aR ((17 : Int32)).toNatClampNeg (fun _ => none))) ((17 : Int32)).toNatClampNeg).1 a3 = some (true, jO 14 fs4) ∧ jn fs4 0 = some v5 ∧
  Rt (.inl none) (jup (jnew H2 (jA 3 (aR ((17 : Int32)).toNatClampNeg (fun _ => none))) ((17 : Int32)).toNatClampNeg) a3 (jO 14 (jset fs4 0 (jR (some H2.2.1)))))) :
  jwp (jprog G) 11 Rt 0 [some (jR this)] [] H :=
  junf_wp (jprog_nf G) (stop := jmem []) (pJ7_init G) 4000 _ _ _ _ h
/-- java/lang/AbstractStringBuilder <init>(I)V @0 -/
theorem gJ8_init__J9_0 (G : JG) {Rt : JRt} (this : Option Nat) (i_1 : Int32) {H : JHp} (h :
  ∃ a1 : Nat, this = some a1 ∧
  ((1 : Int32) = 0 →
    False) ∧
  (¬ (1 : Int32) = 0 →
    ¬ i_1 < 0 ∧ (i_1).toNatClampNeg ≤ 65536 ∧
    ∃ (a2 : Nat) (fs3 : List JVal) (v4 : JVal), this = some a2 ∧ (jnew H (jA 2 (aI (i_1).toNatClampNeg (fun _ => 0))) (i_1).toNatClampNeg).1 a2 = some (true, jO 15 fs3) ∧ jn fs3 0 = some v4 ∧
    jbyte (0 : Int32) ∧ ∃ (a5 : Nat) (fs6 : List JVal) (v7 : JVal), this = some a5 ∧ (jup (jnew H (jA 2 (aI (i_1).toNatClampNeg (fun _ => 0))) (i_1).toNatClampNeg) a2 (jO 15 (jset fs3 0 (jR (some H.2.1))))).1 a5 = some (true, jO 15 fs6) ∧ jn fs6 1 = some v7 ∧
    Rt (.inl none) (jup (jup (jnew H (jA 2 (aI (i_1).toNatClampNeg (fun _ => 0))) (i_1).toNatClampNeg) a2 (jO 15 (jset fs3 0 (jR (some H.2.1))))) a5 (jO 15 (jset fs6 1 (jI 0)))))) :
  jwp (jprog G) 13 Rt 0 [some (jR this), some (jI i_1)] [] H :=
  junf_wp (jprog_nf G) (stop := jmem []) (pJ8_init__J9 G) 4000 _ _ _ _ h
/-- java/lang/StringBuilder <init>()V @0 -/
theorem gJ9_init_0 (G : JG) {Rt : JRt} (this : Option Nat) {H : JHp} (h :
  ∃ a1 : Nat, this = some a1 ∧ /- J8_init__J9 -/ ∃ H2 : JHp, jok (jprog G) 13 [jR this, jI 16] H (.inl none) H2 ∧
  Rt (.inl none) H2) :
  jwp (jprog G) 14 Rt 0 [some (jR this)] [] H :=
  junf_wp (jprog_nf G) (stop := jmem []) (pJ9_init G) 4000 _ _ _ _ h
/-- java/util/ArrayList$Itr <init>(Ljava/util/ArrayList;)V @0 -/
theorem gJ12_init_0 (G : JG) {Rt : JRt} (this : Option Nat) (r_1 : Option Nat) {H : JHp} (h :
  ∃ (a1 : Nat) (fs2 : List JVal) (v3 : JVal), this = some a1 ∧ H.1 a1 = some (true, jO 17 fs2) ∧ jn fs2 3 = some v3 ∧
  ∃ a4 : Nat, this = some a4 ∧
  ∃ (a5 : Nat) (fs6 : List JVal) (v7 : JVal), this = some a5 ∧ (jup H a1 (jO 17 (jset fs2 3 (jR r_1)))).1 a5 = some (true, jO 17 fs6) ∧ jn fs6 1 = some v7 ∧
  ∃ (a8 : Nat) (fs9 : List JVal) (r10 : Option Nat), this = some a8 ∧ job (jup (jup H a1 (jO 17 (jset fs2 3 (jR r_1)))) a5 (jO 17 (jset fs6 1 (jI (-1))))) a8 17 fs9 ∧ jn fs9 3 = some (jR r10) ∧
  ∃ (a11 : Nat) (fs12 : List JVal) (x13 : Int32), r10 = some a11 ∧ job (jup (jup H a1 (jO 17 (jset fs2 3 (jR r_1)))) a5 (jO 17 (jset fs6 1 (jI (-1))))) a11 11 fs12 ∧ jn fs12 0 = some (jI x13) ∧
  ∃ (a14 : Nat) (fs15 : List JVal) (v16 : JVal), this = some a14 ∧ (jup (jup H a1 (jO 17 (jset fs2 3 (jR r_1)))) a5 (jO 17 (jset fs6 1 (jI (-1))))).1 a14 = some (true, jO 17 fs15) ∧ jn fs15 2 = some v16 ∧
  Rt (.inl none) (jup (jup (jup H a1 (jO 17 (jset fs2 3 (jR r_1)))) a5 (jO 17 (jset fs6 1 (jI (-1))))) a14 (jO 17 (jset fs15 2 (jI x13))))) :
  jwp (jprog G) 17 Rt 0 [some (jR this), some (jR r_1)] [] H :=
  junf_wp (jprog_nf G) (stop := jmem []) (pJ12_init G) 4000 _ _ _ _ h
/-- java/util/ArrayList iterator()Ljava/util/Iterator; @0 -/
theorem gJ2_iterator_0 (G : JG) {Rt : JRt} (this : Option Nat) {H : JHp} (h :
  ∃ a1 : Nat, (some H.2.1) = some a1 ∧ /- J12_init -/ ∃ H2 : JHp, jok (jprog G) 17 [jR (some H.2.1), jR this] (jnew H (jO 17 [jI 0, jI 0, jI 0, jR none]) 4) (.inl none) H2 ∧
  Rt (.inl (some (jR (some H.2.1)))) H2) :
  jwp (jprog G) 18 Rt 0 [some (jR this)] [] H :=
  junf_wp (jprog_nf G) (stop := jmem []) (pJ2_iterator G) 4000 _ _ _ _ h
/-- java/util/ArrayList$Itr hasNext()Z @0 -/
theorem gJ12_hasNext_0 (G : JG) {Rt : JRt} (this : Option Nat) {H : JHp} (h :
  ∃ (a1 : Nat) (fs2 : List JVal) (x3 : Int32), this = some a1 ∧ job H a1 17 fs2 ∧ jn fs2 0 = some (jI x3) ∧
  ∃ (a4 : Nat) (fs5 : List JVal) (r6 : Option Nat), this = some a4 ∧ job H a4 17 fs5 ∧ jn fs5 3 = some (jR r6) ∧
  ∃ (a7 : Nat) (fs8 : List JVal) (x9 : Int32), r6 = some a7 ∧ job H a7 11 fs8 ∧ jn fs8 2 = some (jI x9) ∧
  (x3 = x9 →
    jbool (0 : Int32) ∧ Rt (.inl (some (jI 0))) H) ∧
  (¬ x3 = x9 →
    jbool (1 : Int32) ∧ Rt (.inl (some (jI 1))) H)) :
  jwp (jprog G) 19 Rt 0 [some (jR this)] [] H :=
  junf_wp (jprog_nf G) (stop := jmem []) (pJ12_hasNext G) 4000 _ _ _ _ h
/-- java/util/ArrayList$Itr checkForComodification()V @0 -/
theorem gJ12_checkForComodification_0 (G : JG) {Rt : JRt} (this : Option Nat) {H : JHp} (h :
  ∃ (a1 : Nat) (fs2 : List JVal) (r3 : Option Nat), this = some a1 ∧ job H a1 17 fs2 ∧ jn fs2 3 = some (jR r3) ∧
  ∃ (a4 : Nat) (fs5 : List JVal) (x6 : Int32), r3 = some a4 ∧ job H a4 11 fs5 ∧ jn fs5 0 = some (jI x6) ∧
  ∃ (a7 : Nat) (fs8 : List JVal) (x9 : Int32), this = some a7 ∧ job H a7 17 fs8 ∧ jn fs8 2 = some (jI x9) ∧
  (x6 = x9 →
    Rt (.inl none) H) ∧
  (¬ x6 = x9 →
    False)) :
  jwp (jprog G) 20 Rt 0 [some (jR this)] [] H :=
  junf_wp (jprog_nf G) (stop := jmem []) (pJ12_checkForComodification G) 4000 _ _ _ _ h
/-- java/util/ArrayList$Itr next()Ljava/lang/Object; @0 -/
theorem gJ12_next_0 (G : JG) {Rt : JRt} (this : Option Nat) {H : JHp} (h :
  ∃ (a1 : Nat) (fs2 : List JVal), this = some a1 ∧ job H a1 17 fs2 ∧ /- J12_checkForComodification -/ ∃ H3 : JHp, jok (jprog G) 20 [jR this] H (.inl none) H3 ∧
  ∃ (a4 : Nat) (fs5 : List JVal) (x6 : Int32), this = some a4 ∧ job H3 a4 17 fs5 ∧ jn fs5 0 = some (jI x6) ∧
  ∃ (a7 : Nat) (fs8 : List JVal) (r9 : Option Nat), this = some a7 ∧ job H3 a7 17 fs8 ∧ jn fs8 3 = some (jR r9) ∧
  ∃ (a10 : Nat) (fs11 : List JVal) (x12 : Int32), r9 = some a10 ∧ job H3 a10 11 fs11 ∧ jn fs11 2 = some (jI x12) ∧
  (x6 < x12 →
    ∃ (a13 : Nat) (fs14 : List JVal) (r15 : Option Nat), this = some a13 ∧ job H3 a13 17 fs14 ∧ jn fs14 3 = some (jR r15) ∧
    ∃ (a16 : Nat) (fs17 : List JVal) (r18 : Option Nat), r15 = some a16 ∧ job H3 a16 11 fs17 ∧ jn fs17 1 = some (jR r18) ∧
    ∃ (a19 : Nat) (A20 : vp_A), r18 = some a19 ∧ jar H3 a19 3 A20 ∧
    (x6 < (nI A20.1) →
      ∃ (a21 : Nat) (fs22 : List JVal) (v23 : JVal), this = some a21 ∧ H3.1 a21 = some (true, jO 17 fs22) ∧ jn fs22 0 = some v23 ∧
      ∃ (a24 : Nat) (fs25 : List JVal) (v26 : JVal), this = some a24 ∧ (jup H3 a21 (jO 17 (jset fs22 0 (jI (x6 + (1 : Int32)))))).1 a24 = some (true, jO 17 fs25) ∧ jn fs25 1 = some v26 ∧
      ∃ (a27 n28 : Nat) (f29 : Nat → Option Nat), r18 = some a27 ∧ jar (jup (jup H3 a21 (jO 17 (jset fs22 0 (jI (x6 + (1 : Int32)))))) a24 (jO 17 (jset fs25 1 (jI x6)))) a27 3 (aR n28 f29) ∧ vp_in x6 n28 ∧
      Rt (.inl (some (jR (f29 (x6).toNatClampNeg)))) (jup (jup H3 a21 (jO 17 (jset fs22 0 (jI (x6 + (1 : Int32)))))) a24 (jO 17 (jset fs25 1 (jI x6))))) ∧
    (¬ x6 < (nI A20.1) →
      False)) ∧
  (¬ x6 < x12 →
    False)) :
  jwp (jprog G) 21 Rt 0 [some (jR this), none, none] [] H :=
  junf_wp (jprog_nf G) (stop := jmem []) (pJ12_next G) 4000 _ _ _ _ h
/-- java/util/ArrayList add(Ljava/lang/Object;[Ljava/lang/Object;I)V @0 -/
theorem gJ2_add_2_0 (G : JG) {Rt : JRt} (this : Option Nat) (r_1 : Option Nat) (r_2 : Option Nat) (i_3 : Int32) {H : JHp} (h :
  ∃ (a1 : Nat) (A2 : vp_A), r_2 = some a1 ∧ jar H a1 3 A2 ∧
  (¬ i_3 = (nI A2.1) →
    ∃ (a3 n4 : Nat) (f5 : Nat → Option Nat), r_2 = some a3 ∧ H.1 a3 = some (true, jA 3 (aR n4 f5)) ∧ vp_in i_3 n4 ∧ (∀ b, r_1 = some b → jobn H b) ∧ 
    ∃ (a6 : Nat) (fs7 : List JVal) (v8 : JVal), this = some a6 ∧ (jup H a3 (jA 3 (aR n4 (va_up f5 (i_3).toNatClampNeg r_1)))).1 a6 = some (true, jO 11 fs7) ∧ jn fs7 2 = some v8 ∧
    Rt (.inl none) (jup (jup H a3 (jA 3 (aR n4 (va_up f5 (i_3).toNatClampNeg r_1)))) a6 (jO 11 (jset fs7 2 (jI (i_3 + (1 : Int32))))))) ∧
  (¬ ¬ i_3 = (nI A2.1) →
    False)) :
  jwp (jprog G) 24 Rt 0 [some (jR this), some (jR r_1), some (jR r_2), some (jI i_3)] [] H :=
  junf_wp (jprog_nf G) (stop := jmem []) (pJ2_add_2 G) 4000 _ _ _ _ h
/-- java/util/ArrayList add(Ljava/lang/Object;)Z @0 -/
theorem gJ2_add_0 (G : JG) {Rt : JRt} (this : Option Nat) (r_1 : Option Nat) {H : JHp} (h :
  ∃ (a1 : Nat) (fs2 : List JVal) (x3 : Int32), this = some a1 ∧ job H a1 11 fs2 ∧ jn fs2 0 = some (jI x3) ∧
  ∃ (a4 : Nat) (fs5 : List JVal) (v6 : JVal), this = some a4 ∧ H.1 a4 = some (true, jO 11 fs5) ∧ jn fs5 0 = some v6 ∧
  ∃ (a7 : Nat) (fs8 : List JVal) (r9 : Option Nat), this = some a7 ∧ job (jup H a4 (jO 11 (jset fs5 0 (jI (x3 + (1 : Int32)))))) a7 11 fs8 ∧ jn fs8 1 = some (jR r9) ∧
  ∃ (a10 : Nat) (fs11 : List JVal) (x12 : Int32), this = some a10 ∧ job (jup H a4 (jO 11 (jset fs5 0 (jI (x3 + (1 : Int32)))))) a10 11 fs11 ∧ jn fs11 2 = some (jI x12) ∧
  ∃ (a13 : Nat) (fs14 : List JVal), this = some a13 ∧ job (jup H a4 (jO 11 (jset fs5 0 (jI (x3 + (1 : Int32)))))) a13 11 fs14 ∧ /- J2_add_2 -/ ∃ H15 : JHp, jok (jprog G) 24 [jR this, jR r_1, jR r9, jI x12] (jup H a4 (jO 11 (jset fs5 0 (jI (x3 + (1 : Int32)))))) (.inl none) H15 ∧
  jbool (1 : Int32) ∧ Rt (.inl (some (jI 1))) H15) :
  jwp (jprog G) 25 Rt 0 [some (jR this), some (jR r_1)] [] H :=
  junf_wp (jprog_nf G) (stop := jmem []) (pJ2_add G) 4000 _ _ _ _ h
/-- java/util/PriorityQueue$Itr <init>(Ljava/util/PriorityQueue;)V @0 -/
theorem gJ23_init_0 (G : JG) {Rt : JRt} (this : Option Nat) (r_1 : Option Nat) {H : JHp} (h :
  ∃ (a1 : Nat) (fs2 : List JVal) (v3 : JVal), this = some a1 ∧ H.1 a1 = some (true, jO 20 fs2) ∧ jn fs2 5 = some v3 ∧
  ∃ a4 : Nat, this = some a4 ∧
  ∃ (a5 : Nat) (fs6 : List JVal) (v7 : JVal), this = some a5 ∧ (jup H a1 (jO 20 (jset fs2 5 (jR r_1)))).1 a5 = some (true, jO 20 fs6) ∧ jn fs6 1 = some v7 ∧
  ∃ (a8 : Nat) (fs9 : List JVal) (r10 : Option Nat), this = some a8 ∧ job (jup (jup H a1 (jO 20 (jset fs2 5 (jR r_1)))) a5 (jO 20 (jset fs6 1 (jI (-1))))) a8 20 fs9 ∧ jn fs9 5 = some (jR r10) ∧
  ∃ (a11 : Nat) (fs12 : List JVal) (x13 : Int32), r10 = some a11 ∧ job (jup (jup H a1 (jO 20 (jset fs2 5 (jR r_1)))) a5 (jO 20 (jset fs6 1 (jI (-1))))) a11 12 fs12 ∧ jn fs12 3 = some (jI x13) ∧
  ∃ (a14 : Nat) (fs15 : List JVal) (v16 : JVal), this = some a14 ∧ (jup (jup H a1 (jO 20 (jset fs2 5 (jR r_1)))) a5 (jO 20 (jset fs6 1 (jI (-1))))).1 a14 = some (true, jO 20 fs15) ∧ jn fs15 4 = some v16 ∧
  Rt (.inl none) (jup (jup (jup H a1 (jO 20 (jset fs2 5 (jR r_1)))) a5 (jO 20 (jset fs6 1 (jI (-1))))) a14 (jO 20 (jset fs15 4 (jI x13))))) :
  jwp (jprog G) 26 Rt 0 [some (jR this), some (jR r_1)] [] H :=
  junf_wp (jprog_nf G) (stop := jmem []) (pJ23_init G) 4000 _ _ _ _ h
/-- java/util/PriorityQueue iterator()Ljava/util/Iterator; @0 -/
theorem gJ4_iterator_0 (G : JG) {Rt : JRt} (this : Option Nat) {H : JHp} (h :
  ∃ a1 : Nat, (some H.2.1) = some a1 ∧ /- J23_init -/ ∃ H2 : JHp, jok (jprog G) 26 [jR (some H.2.1), jR this] (jnew H (jO 20 [jI 0, jI 0, jR none, jR none, jI 0, jR none]) 6) (.inl none) H2 ∧
  Rt (.inl (some (jR (some H.2.1)))) H2) :
  jwp (jprog G) 27 Rt 0 [some (jR this)] [] H :=
  junf_wp (jprog_nf G) (stop := jmem []) (pJ4_iterator G) 4000 _ _ _ _ h
/-- java/util/ArrayDeque isEmpty()Z @0 -/
theorem gJ7_isEmpty_0 (G : JG) {Rt : JRt} (this : Option Nat) {H : JHp} (h :
  ∃ (a1 : Nat) (fs2 : List JVal) (x3 : Int32), this = some a1 ∧ job H a1 14 fs2 ∧ jn fs2 1 = some (jI x3) ∧
  ∃ (a4 : Nat) (fs5 : List JVal) (x6 : Int32), this = some a4 ∧ job H a4 14 fs5 ∧ jn fs5 2 = some (jI x6) ∧
  (¬ x3 = x6 →
    jbool (0 : Int32) ∧ Rt (.inl (some (jI 0))) H) ∧
  (¬ ¬ x3 = x6 →
    jbool (1 : Int32) ∧ Rt (.inl (some (jI 1))) H)) :
  jwp (jprog G) 28 Rt 0 [some (jR this)] [] H :=
  junf_wp (jprog_nf G) (stop := jmem []) (pJ7_isEmpty G) 4000 _ _ _ _ h
/-- java/util/PriorityQueue$Itr hasNext()Z @0 -/
theorem gJ23_hasNext_0 (G : JG) {Rt : JRt} (this : Option Nat) {H : JHp} (h :
  ∃ (a1 : Nat) (fs2 : List JVal) (x3 : Int32), this = some a1 ∧ job H a1 20 fs2 ∧ jn fs2 0 = some (jI x3) ∧
  ∃ (a4 : Nat) (fs5 : List JVal) (r6 : Option Nat), this = some a4 ∧ job H a4 20 fs5 ∧ jn fs5 5 = some (jR r6) ∧
  ∃ (a7 : Nat) (fs8 : List JVal) (x9 : Int32), r6 = some a7 ∧ job H a7 12 fs8 ∧ jn fs8 1 = some (jI x9) ∧
  (x3 < x9 →
    jbool (1 : Int32) ∧ Rt (.inl (some (jI 1))) H) ∧
  (¬ x3 < x9 →
    ∃ (a10 : Nat) (fs11 : List JVal) (r12 : Option Nat), this = some a10 ∧ job H a10 20 fs11 ∧ jn fs11 2 = some (jR r12) ∧
    (r12 = none →
      jbool (0 : Int32) ∧ Rt (.inl (some (jI 0))) H) ∧
    (¬ r12 = none →
      ∃ (a13 : Nat) (fs14 : List JVal) (r15 : Option Nat), this = some a13 ∧ job H a13 20 fs14 ∧ jn fs14 2 = some (jR r15) ∧
      ∃ (a16 : Nat) (fs17 : List JVal), r15 = some a16 ∧ job H a16 14 fs17 ∧ /- J7_isEmpty -/ ∃ (x19 : Int32) (H18 : JHp), jok (jprog G) 28 [jR r15] H (.inl (some (jI x19))) H18 ∧
      (¬ x19 = 0 →
        jbool (0 : Int32) ∧ Rt (.inl (some (jI 0))) H18) ∧
      (¬ ¬ x19 = 0 →
        jbool (1 : Int32) ∧ Rt (.inl (some (jI 1))) H18)))) :
  jwp (jprog G) 29 Rt 0 [some (jR this)] [] H :=
  junf_wp (jprog_nf G) (stop := jmem []) (pJ23_hasNext G) 4000 _ _ _ _ h
/-- java/util/ArrayDeque elementAt([Ljava/lang/Object;I)Ljava/lang/Object; @0 -/
theorem gJ7_elementAt_0 (G : JG) {Rt : JRt} (r_0 : Option Nat) (i_1 : Int32) {H : JHp} (h :
  ∃ (a1 n2 : Nat) (f3 : Nat → Option Nat), r_0 = some a1 ∧ jar H a1 3 (aR n2 f3) ∧ vp_in i_1 n2 ∧
  Rt (.inl (some (jR (f3 (i_1).toNatClampNeg)))) H) :
  jwp (jprog G) 30 Rt 0 [some (jR r_0), some (jI i_1)] [] H :=
  junf_wp (jprog_nf G) (stop := jmem []) (pJ7_elementAt G) 4000 _ _ _ _ h
/-- java/util/ArrayDeque inc(II)I @0 -/
theorem gJ7_inc_0 (G : JG) {Rt : JRt} (i_0 : Int32) (i_1 : Int32) {H : JHp} (h :
  ((i_0 + 1) < i_1 →
    Rt (.inl (some (jI (i_0 + 1)))) H) ∧
  (¬ (i_0 + 1) < i_1 →
    Rt (.inl (some (jI 0))) H)) :
  jwp (jprog G) 31 Rt 0 [some (jI i_0), some (jI i_1)] [] H :=
  junf_wp (jprog_nf G) (stop := jmem []) (pJ7_inc G) 4000 _ _ _ _ h
/-- java/util/ArrayDeque pollFirst()Ljava/lang/Object; @0 -/
theorem gJ7_pollFirst_0 (G : JG) {Rt : JRt} (this : Option Nat) {H : JHp} (h :
  ∃ (a1 : Nat) (fs2 : List JVal) (r3 : Option Nat), this = some a1 ∧ job H a1 14 fs2 ∧ jn fs2 0 = some (jR r3) ∧
  ∃ (a4 : Nat) (fs5 : List JVal) (x6 : Int32), this = some a4 ∧ job H a4 14 fs5 ∧ jn fs5 1 = some (jI x6) ∧
  /- J7_elementAt -/ ∃ (r8 : Option Nat) (H7 : JHp), jok (jprog G) 30 [jR r3, jI x6] H (.inl (some (jR r8))) H7 ∧
  (r8 = none →
    Rt (.inl (some (jR r8))) H7) ∧
  (¬ r8 = none →
    ∃ (a9 n10 : Nat) (f11 : Nat → Option Nat), r3 = some a9 ∧ H7.1 a9 = some (true, jA 3 (aR n10 f11)) ∧ vp_in x6 n10 ∧ (∀ b, none = some b → jobn H7 b) ∧ 
    ∃ (a12 : Nat) (A13 : vp_A), r3 = some a12 ∧ jar (jup H7 a9 (jA 3 (aR n10 (va_up f11 (x6).toNatClampNeg none)))) a12 3 A13 ∧
    /- J7_inc -/ ∃ (x15 : Int32) (H14 : JHp), jok (jprog G) 31 [jI x6, jI (nI A13.1)] (jup H7 a9 (jA 3 (aR n10 (va_up f11 (x6).toNatClampNeg none)))) (.inl (some (jI x15))) H14 ∧
    ∃ (a16 : Nat) (fs17 : List JVal) (v18 : JVal), this = some a16 ∧ H14.1 a16 = some (true, jO 14 fs17) ∧ jn fs17 1 = some v18 ∧
    Rt (.inl (some (jR r8))) (jup H14 a16 (jO 14 (jset fs17 1 (jI x15)))))) :
  jwp (jprog G) 32 Rt 0 [some (jR this), none, none, none] [] H :=
  junf_wp (jprog_nf G) (stop := jmem []) (pJ7_pollFirst G) 4000 _ _ _ _ h
/-- java/util/ArrayDeque poll()Ljava/lang/Object; @0 -/
theorem gJ7_poll_0 (G : JG) {Rt : JRt} (this : Option Nat) {H : JHp} (h :
  ∃ (a1 : Nat) (fs2 : List JVal), this = some a1 ∧ job H a1 14 fs2 ∧ /- J7_pollFirst -/ ∃ (r4 : Option Nat) (H3 : JHp), jok (jprog G) 32 [jR this] H (.inl (some (jR r4))) H3 ∧
  Rt (.inl (some (jR r4))) H3) :
  jwp (jprog G) 33 Rt 0 [some (jR this)] [] H :=
  junf_wp (jprog_nf G) (stop := jmem []) (pJ7_poll G) 4000 _ _ _ _ h
/-- java/util/PriorityQueue$Itr next()Ljava/lang/Object; @0 -/
theorem gJ23_next_0 (G : JG) {Rt : JRt} (this : Option Nat) {H : JHp} (h :
  ∃ (a1 : Nat) (fs2 : List JVal) (x3 : Int32), this = some a1 ∧ job H a1 20 fs2 ∧ jn fs2 4 = some (jI x3) ∧
  ∃ (a4 : Nat) (fs5 : List JVal) (r6 : Option Nat), this = some a4 ∧ job H a4 20 fs5 ∧ jn fs5 5 = some (jR r6) ∧
  ∃ (a7 : Nat) (fs8 : List JVal) (x9 : Int32), r6 = some a7 ∧ job H a7 12 fs8 ∧ jn fs8 3 = some (jI x9) ∧
  (x3 = x9 →
    ∃ (a10 : Nat) (fs11 : List JVal) (x12 : Int32), this = some a10 ∧ job H a10 20 fs11 ∧ jn fs11 0 = some (jI x12) ∧
    ∃ (a13 : Nat) (fs14 : List JVal) (r15 : Option Nat), this = some a13 ∧ job H a13 20 fs14 ∧ jn fs14 5 = some (jR r15) ∧
    ∃ (a16 : Nat) (fs17 : List JVal) (x18 : Int32), r15 = some a16 ∧ job H a16 12 fs17 ∧ jn fs17 1 = some (jI x18) ∧
    (x18 ≤ x12 →
      ∃ (a19 : Nat) (fs20 : List JVal) (r21 : Option Nat), this = some a19 ∧ job H a19 20 fs20 ∧ jn fs20 2 = some (jR r21) ∧
      (r21 = none →
        False) ∧
      (¬ r21 = none →
        ∃ (a22 : Nat) (fs23 : List JVal) (v24 : JVal), this = some a22 ∧ H.1 a22 = some (true, jO 20 fs23) ∧ jn fs23 1 = some v24 ∧
        ∃ (a25 : Nat) (fs26 : List JVal) (r27 : Option Nat), this = some a25 ∧ job (jup H a22 (jO 20 (jset fs23 1 (jI (-1))))) a25 20 fs26 ∧ jn fs26 2 = some (jR r27) ∧
        ∃ (a28 : Nat) (fs29 : List JVal), r27 = some a28 ∧ job (jup H a22 (jO 20 (jset fs23 1 (jI (-1))))) a28 14 fs29 ∧ /- J7_poll -/ ∃ (r31 : Option Nat) (H30 : JHp), jok (jprog G) 33 [jR r27] (jup H a22 (jO 20 (jset fs23 1 (jI (-1))))) (.inl (some (jR r31))) H30 ∧
        ∃ (a32 : Nat) (fs33 : List JVal) (v34 : JVal), this = some a32 ∧ H30.1 a32 = some (true, jO 20 fs33) ∧ jn fs33 3 = some v34 ∧
        ∃ (a35 : Nat) (fs36 : List JVal) (r37 : Option Nat), this = some a35 ∧ job (jup H30 a32 (jO 20 (jset fs33 3 (jR r31)))) a35 20 fs36 ∧ jn fs36 3 = some (jR r37) ∧
        (r37 = none →
          False) ∧
        (¬ r37 = none →
          ∃ (a38 : Nat) (fs39 : List JVal) (r40 : Option Nat), this = some a38 ∧ job (jup H30 a32 (jO 20 (jset fs33 3 (jR r31)))) a38 20 fs39 ∧ jn fs39 3 = some (jR r40) ∧
          Rt (.inl (some (jR r40))) (jup H30 a32 (jO 20 (jset fs33 3 (jR r31))))))) ∧
    (¬ x18 ≤ x12 →
      ∃ (a41 : Nat) (fs42 : List JVal) (r43 : Option Nat), this = some a41 ∧ job H a41 20 fs42 ∧ jn fs42 5 = some (jR r43) ∧
      ∃ (a44 : Nat) (fs45 : List JVal) (r46 : Option Nat), r43 = some a44 ∧ job H a44 12 fs45 ∧ jn fs45 0 = some (jR r46) ∧
      ∃ (a47 : Nat) (fs48 : List JVal) (x49 : Int32), this = some a47 ∧ job H a47 20 fs48 ∧ jn fs48 0 = some (jI x49) ∧
      ∃ (a50 : Nat) (fs51 : List JVal) (v52 : JVal), this = some a50 ∧ H.1 a50 = some (true, jO 20 fs51) ∧ jn fs51 0 = some v52 ∧
      ∃ (a53 : Nat) (fs54 : List JVal) (v55 : JVal), this = some a53 ∧ (jup H a50 (jO 20 (jset fs51 0 (jI (x49 + (1 : Int32)))))).1 a53 = some (true, jO 20 fs54) ∧ jn fs54 1 = some v55 ∧
      ∃ (a56 n57 : Nat) (f58 : Nat → Option Nat), r46 = some a56 ∧ jar (jup (jup H a50 (jO 20 (jset fs51 0 (jI (x49 + (1 : Int32)))))) a53 (jO 20 (jset fs54 1 (jI x49)))) a56 3 (aR n57 f58) ∧ vp_in x49 n57 ∧
      Rt (.inl (some (jR (f58 (x49).toNatClampNeg)))) (jup (jup H a50 (jO 20 (jset fs51 0 (jI (x49 + (1 : Int32)))))) a53 (jO 20 (jset fs54 1 (jI x49)))))) ∧
  (¬ x3 = x9 →
    False)) :
  jwp (jprog G) 34 Rt 0 [some (jR this)] [] H :=
  junf_wp (jprog_nf G) (stop := jmem []) (pJ23_next G) 4000 _ _ _ _ h
/-- java/lang/Math max(II)I @0 -/
theorem gJ20_max_0 (G : JG) {Rt : JRt} (i_0 : Int32) (i_1 : Int32) {H : JHp} (h :
  (i_0 < i_1 →
    Rt (.inl (some (jI i_1))) H) ∧
  (¬ i_0 < i_1 →
    Rt (.inl (some (jI i_0))) H)) :
  jwp (jprog G) 35 Rt 0 [some (jI i_0), some (jI i_1)] [] H :=
  junf_wp (jprog_nf G) (stop := jmem []) (pJ20_max G) 4000 _ _ _ _ h
/-- jdk/internal/util/ArraysSupport newLength(III)I @0 -/
theorem gJ19_newLength_0 (G : JG) {Rt : JRt} (i_0 : Int32) (i_1 : Int32) (i_2 : Int32) {H : JHp} (h :
  /- J20_max -/ ∃ (x2 : Int32) (H1 : JHp), jok (jprog G) 35 [jI i_1, jI i_2] H (.inl (some (jI x2))) H1 ∧
  ((i_0 + x2) ≤ (0 : Int32) →
    False) ∧
  (¬ (i_0 + x2) ≤ (0 : Int32) →
    ((2147483639 : Int32) < (i_0 + x2) →
      False) ∧
    (¬ (2147483639 : Int32) < (i_0 + x2) →
      Rt (.inl (some (jI (i_0 + x2)))) H1))) :
  jwp (jprog G) 36 Rt 0 [some (jI i_0), some (jI i_1), some (jI i_2), none] [] H :=
  junf_wp (jprog_nf G) (stop := jmem []) (pJ19_newLength G) 4000 _ _ _ _ h
/-- java/lang/Math min(II)I @0 -/
theorem gJ20_min_0 (G : JG) {Rt : JRt} (i_0 : Int32) (i_1 : Int32) {H : JHp} (h :
  (i_1 < i_0 →
    Rt (.inl (some (jI i_1))) H) ∧
  (¬ i_1 < i_0 →
    Rt (.inl (some (jI i_0))) H)) :
  jwp (jprog G) 37 Rt 0 [some (jI i_0), some (jI i_1)] [] H :=
  junf_wp (jprog_nf G) (stop := jmem []) (pJ20_min G) 4000 _ _ _ _ h
/-- java/util/Arrays copyOf([Ljava/lang/Object;ILjava/lang/Class;)[Ljava/lang/Object; @0 -/
theorem gJ21_copyOf_3_0 (G : JG) {Rt : JRt} (r_0 : Option Nat) (i_1 : Int32) (r_2 : Option Nat) {H : JHp} (h :
  ((¬ r_2 = (some (G.1 1))) →
    False) ∧
  (¬ (¬ r_2 = (some (G.1 1))) →
    ¬ i_1 < 0 ∧ (i_1).toNatClampNeg ≤ 65536 ∧
    ∃ (a1 : Nat) (A2 : vp_A), r_0 = some a1 ∧ jar (jnew H (jA 3 (aR (i_1).toNatClampNeg (fun _ => none))) (i_1).toNatClampNeg) a1 3 A2 ∧
    /- J20_min -/ ∃ (x4 : Int32) (H3 : JHp), jok (jprog G) 37 [jI (nI A2.1), jI i_1] (jnew H (jA 3 (aR (i_1).toNatClampNeg (fun _ => none))) (i_1).toNatClampNeg) (.inl (some (jI x4))) H3 ∧
    ∃ (a5 b5 n5 m5 : Nat) (f5 g5 : Nat → Option Nat) (sp5 dp5 k5 : Nat), r_0 = some a5 ∧ (some H.2.1) = some b5 ∧ jar H3 a5 3 (aR n5 f5) ∧ H3.1 b5 = some (true, jA 3 (aR m5 g5)) ∧ (0 : Int32) = nI sp5 ∧ (0 : Int32) = nI dp5 ∧ x4 = nI k5 ∧ sp5 + k5 ≤ n5 ∧ dp5 + k5 ≤ m5 ∧ n5 < 2 ^ 31 ∧ m5 < 2 ^ 31 ∧ (∀ q, q < k5 → ∀ y, f5 (sp5 + q) = some y → jobn H3 y) ∧
    Rt (.inl (some (jR (some H.2.1)))) (jup H3 b5 (jA 3 (aR m5 (va_cpy f5 g5 sp5 dp5 k5)))))) :
  jwp (jprog G) 38 Rt 0 [some (jR r_0), some (jI i_1), some (jR r_2), none] [] H :=
  junf_wp (jprog_nf G) (stop := jmem []) (pJ21_copyOf_3 G) 4000 _ _ _ _ h
/-- java/util/Arrays copyOf([Ljava/lang/Object;I)[Ljava/lang/Object; @0 -/
theorem gJ21_copyOf_2_0 (G : JG) {Rt : JRt} (r_0 : Option Nat) (i_1 : Int32) {H : JHp} (h :
  ∃ (a1 : Nat) (A2 : vp_A), r_0 = some a1 ∧ H.1 a1 = some (true, jA 3 A2) ∧
  /- J21_copyOf_3 -/ ∃ (r4 : Option Nat) (H3 : JHp), jok (jprog G) 38 [jR r_0, jI i_1, jR (some (G.1 1))] H (.inl (some (jR r4))) H3 ∧
  Rt (.inl (some (jR r4))) H3) :
  jwp (jprog G) 39 Rt 0 [some (jR r_0), some (jI i_1)] [] H :=
  junf_wp (jprog_nf G) (stop := jmem []) (pJ21_copyOf_2 G) 4000 _ _ _ _ h
/-- java/util/PriorityQueue grow(I)V @0 -/
theorem gJ4_grow_0 (G : JG) {Rt : JRt} (this : Option Nat) (i_1 : Int32) {H : JHp} (h :
  ∃ (a1 : Nat) (fs2 : List JVal) (r3 : Option Nat), this = some a1 ∧ job H a1 12 fs2 ∧ jn fs2 0 = some (jR r3) ∧
  ∃ (a4 : Nat) (A5 : vp_A), r3 = some a4 ∧ jar H a4 3 A5 ∧
  ((64 : Int32) ≤ (nI A5.1) →
    /- J19_newLength -/ ∃ (x7 : Int32) (H6 : JHp), jok (jprog G) 36 [jI (nI A5.1), jI (i_1 - (nI A5.1)), jI (jshr (nI A5.1) (1 : Int32))] H (.inl (some (jI x7))) H6 ∧
    ∃ (a8 : Nat) (fs9 : List JVal) (r10 : Option Nat), this = some a8 ∧ job H6 a8 12 fs9 ∧ jn fs9 0 = some (jR r10) ∧
    /- J21_copyOf_2 -/ ∃ (r12 : Option Nat) (H11 : JHp), jok (jprog G) 39 [jR r10, jI x7] H6 (.inl (some (jR r12))) H11 ∧
    ∃ (a13 : Nat) (fs14 : List JVal) (v15 : JVal), this = some a13 ∧ H11.1 a13 = some (true, jO 12 fs14) ∧ jn fs14 0 = some v15 ∧
    Rt (.inl none) (jup H11 a13 (jO 12 (jset fs14 0 (jR r12))))) ∧
  (¬ (64 : Int32) ≤ (nI A5.1) →
    /- J19_newLength -/ ∃ (x17 : Int32) (H16 : JHp), jok (jprog G) 36 [jI (nI A5.1), jI (i_1 - (nI A5.1)), jI ((nI A5.1) + (2 : Int32))] H (.inl (some (jI x17))) H16 ∧
    ∃ (a18 : Nat) (fs19 : List JVal) (r20 : Option Nat), this = some a18 ∧ job H16 a18 12 fs19 ∧ jn fs19 0 = some (jR r20) ∧
    /- J21_copyOf_2 -/ ∃ (r22 : Option Nat) (H21 : JHp), jok (jprog G) 39 [jR r20, jI x17] H16 (.inl (some (jR r22))) H21 ∧
    ∃ (a23 : Nat) (fs24 : List JVal) (v25 : JVal), this = some a23 ∧ H21.1 a23 = some (true, jO 12 fs24) ∧ jn fs24 0 = some v25 ∧
    Rt (.inl none) (jup H21 a23 (jO 12 (jset fs24 0 (jR r22)))))) :
  jwp (jprog G) 40 Rt 0 [some (jR this), some (jI i_1), none, none] [] H :=
  junf_wp (jprog_nf G) (stop := jmem []) (pJ4_grow G) 4000 _ _ _ _ h
/-- java/util/PriorityQueue siftUpUsingComparator(ILjava/lang/Object;[Ljava/lang/Object;Ljava/util/Comparator;)V @0 -/
theorem gJ4_siftUpUsingComparator_0 (G : JG) {Rt : JRt} (i_0 : Int32) (r_1 : Option Nat) (r_2 : Option Nat) (r_3 : Option Nat) {H : JHp} (h :
  (i_0 ≤ 0 →
    ∃ (a1 n2 : Nat) (f3 : Nat → Option Nat), r_2 = some a1 ∧ H.1 a1 = some (true, jA 3 (aR n2 f3)) ∧ vp_in i_0 n2 ∧ (∀ b, r_1 = some b → jobn H b) ∧ 
    Rt (.inl none) (jup H a1 (jA 3 (aR n2 (va_up f3 (i_0).toNatClampNeg r_1))))) ∧
  (¬ i_0 ≤ 0 →
    ∃ (a4 n5 : Nat) (f6 : Nat → Option Nat), r_2 = some a4 ∧ jar H a4 3 (aR n5 f6) ∧ vp_in (jushr (i_0 - (1 : Int32)) (1 : Int32)) n5 ∧
    ∃ (a7 : Nat) (fs8 : List JVal), r_3 = some a7 ∧ job H a7 2 fs8 ∧ /- X2_compare -/ ∃ (x10 : Int32) (H9 : JHp), jok (jprog G) 42 [jR r_3, jR r_1, jR (f6 ((jushr (i_0 - (1 : Int32)) (1 : Int32))).toNatClampNeg)] H (.inl (some (jI x10))) H9 ∧
    (x10 < 0 →
      ∃ (a11 n12 : Nat) (f13 : Nat → Option Nat), r_2 = some a11 ∧ H9.1 a11 = some (true, jA 3 (aR n12 f13)) ∧ vp_in i_0 n12 ∧ (∀ b, (f6 ((jushr (i_0 - (1 : Int32)) (1 : Int32))).toNatClampNeg) = some b → jobn H9 b) ∧ 
      jwp (jprog G) 43 Rt 0 [some (jI (jushr (i_0 - (1 : Int32)) (1 : Int32))), some (jR r_1), some (jR r_2), some (jR r_3), some (jI (jushr (i_0 - (1 : Int32)) (1 : Int32))), some (jR (f6 ((jushr (i_0 - (1 : Int32)) (1 : Int32))).toNatClampNeg))] [] (jup H9 a11 (jA 3 (aR n12 (va_up f13 (i_0).toNatClampNeg (f6 ((jushr (i_0 - (1 : Int32)) (1 : Int32))).toNatClampNeg)))))) ∧
    (¬ x10 < 0 →
      ∃ (a14 n15 : Nat) (f16 : Nat → Option Nat), r_2 = some a14 ∧ H9.1 a14 = some (true, jA 3 (aR n15 f16)) ∧ vp_in i_0 n15 ∧ (∀ b, r_1 = some b → jobn H9 b) ∧ 
      Rt (.inl none) (jup H9 a14 (jA 3 (aR n15 (va_up f16 (i_0).toNatClampNeg r_1))))))) :
  jwp (jprog G) 43 Rt 0 [some (jI i_0), some (jR r_1), some (jR r_2), some (jR r_3), none, none] [] H :=
  junf_wp (jprog_nf G) (stop := jmem [0]) (pJ4_siftUpUsingComparator G) 4000 _ _ _ _ h
/-- java/util/PriorityQueue siftUp(ILjava/lang/Object;)V @0 -/
theorem gJ4_siftUp_0 (G : JG) {Rt : JRt} (this : Option Nat) (i_1 : Int32) (r_2 : Option Nat) {H : JHp} (h :
  ∃ (a1 : Nat) (fs2 : List JVal) (r3 : Option Nat), this = some a1 ∧ job H a1 12 fs2 ∧ jn fs2 2 = some (jR r3) ∧
  (r3 = none →
    False) ∧
  (¬ r3 = none →
    ∃ (a4 : Nat) (fs5 : List JVal) (r6 : Option Nat), this = some a4 ∧ job H a4 12 fs5 ∧ jn fs5 0 = some (jR r6) ∧
    ∃ (a7 : Nat) (fs8 : List JVal) (r9 : Option Nat), this = some a7 ∧ job H a7 12 fs8 ∧ jn fs8 2 = some (jR r9) ∧
    /- J4_siftUpUsingComparator -/ ∃ H10 : JHp, jok (jprog G) 43 [jI i_1, jR r_2, jR r6, jR r9] H (.inl none) H10 ∧
    Rt (.inl none) H10)) :
  jwp (jprog G) 44 Rt 0 [some (jR this), some (jI i_1), some (jR r_2)] [] H :=
  junf_wp (jprog_nf G) (stop := jmem []) (pJ4_siftUp G) 4000 _ _ _ _ h
/-- java/util/PriorityQueue offer(Ljava/lang/Object;)Z @0 -/
theorem gJ4_offer_0 (G : JG) {Rt : JRt} (this : Option Nat) (r_1 : Option Nat) {H : JHp} (h :
  ((¬ r_1 = none) →
    ∃ (a1 : Nat) (fs2 : List JVal) (x3 : Int32), this = some a1 ∧ job H a1 12 fs2 ∧ jn fs2 3 = some (jI x3) ∧
    ∃ (a4 : Nat) (fs5 : List JVal) (v6 : JVal), this = some a4 ∧ H.1 a4 = some (true, jO 12 fs5) ∧ jn fs5 3 = some v6 ∧
    ∃ (a7 : Nat) (fs8 : List JVal) (x9 : Int32), this = some a7 ∧ job (jup H a4 (jO 12 (jset fs5 3 (jI (x3 + (1 : Int32)))))) a7 12 fs8 ∧ jn fs8 1 = some (jI x9) ∧
    ∃ (a10 : Nat) (fs11 : List JVal) (r12 : Option Nat), this = some a10 ∧ job (jup H a4 (jO 12 (jset fs5 3 (jI (x3 + (1 : Int32)))))) a10 12 fs11 ∧ jn fs11 0 = some (jR r12) ∧
    ∃ (a13 : Nat) (A14 : vp_A), r12 = some a13 ∧ jar (jup H a4 (jO 12 (jset fs5 3 (jI (x3 + (1 : Int32)))))) a13 3 A14 ∧
    (x9 < (nI A14.1) →
      ∃ (a15 : Nat) (fs16 : List JVal), this = some a15 ∧ job (jup H a4 (jO 12 (jset fs5 3 (jI (x3 + (1 : Int32)))))) a15 12 fs16 ∧ /- J4_siftUp -/ ∃ H17 : JHp, jok (jprog G) 44 [jR this, jI x9, jR r_1] (jup H a4 (jO 12 (jset fs5 3 (jI (x3 + (1 : Int32)))))) (.inl none) H17 ∧
      ∃ (a18 : Nat) (fs19 : List JVal) (v20 : JVal), this = some a18 ∧ H17.1 a18 = some (true, jO 12 fs19) ∧ jn fs19 1 = some v20 ∧
      jbool (1 : Int32) ∧ Rt (.inl (some (jI 1))) (jup H17 a18 (jO 12 (jset fs19 1 (jI (x9 + (1 : Int32))))))) ∧
    (¬ x9 < (nI A14.1) →
      ∃ (a21 : Nat) (fs22 : List JVal), this = some a21 ∧ job (jup H a4 (jO 12 (jset fs5 3 (jI (x3 + (1 : Int32)))))) a21 12 fs22 ∧ /- J4_grow -/ ∃ H23 : JHp, jok (jprog G) 40 [jR this, jI (x9 + (1 : Int32))] (jup H a4 (jO 12 (jset fs5 3 (jI (x3 + (1 : Int32)))))) (.inl none) H23 ∧
      ∃ (a24 : Nat) (fs25 : List JVal), this = some a24 ∧ job H23 a24 12 fs25 ∧ /- J4_siftUp -/ ∃ H26 : JHp, jok (jprog G) 44 [jR this, jI x9, jR r_1] H23 (.inl none) H26 ∧
      ∃ (a27 : Nat) (fs28 : List JVal) (v29 : JVal), this = some a27 ∧ H26.1 a27 = some (true, jO 12 fs28) ∧ jn fs28 1 = some v29 ∧
      jbool (1 : Int32) ∧ Rt (.inl (some (jI 1))) (jup H26 a27 (jO 12 (jset fs28 1 (jI (x9 + (1 : Int32)))))))) ∧
  (¬ (¬ r_1 = none) →
    False)) :
  jwp (jprog G) 45 Rt 0 [some (jR this), some (jR r_1), none] [] H :=
  junf_wp (jprog_nf G) (stop := jmem []) (pJ4_offer G) 4000 _ _ _ _ h
/-- java/util/PriorityQueue add(Ljava/lang/Object;)Z @0 -/
theorem gJ4_add_0 (G : JG) {Rt : JRt} (this : Option Nat) (r_1 : Option Nat) {H : JHp} (h :
  ∃ (a1 : Nat) (fs2 : List JVal), this = some a1 ∧ job H a1 12 fs2 ∧ /- J4_offer -/ ∃ (x4 : Int32) (H3 : JHp), jok (jprog G) 45 [jR this, jR r_1] H (.inl (some (jI x4))) H3 ∧
  jbool x4 ∧ Rt (.inl (some (jI x4))) H3) :
  jwp (jprog G) 46 Rt 0 [some (jR this), some (jR r_1)] [] H :=
  junf_wp (jprog_nf G) (stop := jmem []) (pJ4_add G) 4000 _ _ _ _ h
/-- java/util/AbstractCollection <init>()V @0 -/
theorem gJ0_init__J29_0 (G : JG) {Rt : JRt} (this : Option Nat) {H : JHp} (h :
  ∃ a1 : Nat, this = some a1 ∧
  Rt (.inl none) H) :
  jwp (jprog G) 47 Rt 0 [some (jR this)] [] H :=
  junf_wp (jprog_nf G) (stop := jmem []) (pJ0_init__J29 G) 4000 _ _ _ _ h
/-- java/util/AbstractSet <init>()V @0 -/
theorem gJ28_init__J29_0 (G : JG) {Rt : JRt} (this : Option Nat) {H : JHp} (h :
  ∃ a1 : Nat, this = some a1 ∧ /- J0_init__J29 -/ ∃ H2 : JHp, jok (jprog G) 47 [jR this] H (.inl none) H2 ∧
  Rt (.inl none) H2) :
  jwp (jprog G) 48 Rt 0 [some (jR this)] [] H :=
  junf_wp (jprog_nf G) (stop := jmem []) (pJ28_init__J29 G) 4000 _ _ _ _ h
/-- java/util/TreeMap$KeySet <init>(Ljava/util/NavigableMap;)V @0 -/
theorem gJ29_init_0 (G : JG) {Rt : JRt} (this : Option Nat) (r_1 : Option Nat) {H : JHp} (h :
  ∃ a1 : Nat, this = some a1 ∧ /- J28_init__J29 -/ ∃ H2 : JHp, jok (jprog G) 48 [jR this] H (.inl none) H2 ∧
  ∃ (a3 : Nat) (fs4 : List JVal) (v5 : JVal), this = some a3 ∧ H2.1 a3 = some (true, jO 22 fs4) ∧ jn fs4 0 = some v5 ∧
  Rt (.inl none) (jup H2 a3 (jO 22 (jset fs4 0 (jR r_1))))) :
  jwp (jprog G) 49 Rt 0 [some (jR this), some (jR r_1)] [] H :=
  junf_wp (jprog_nf G) (stop := jmem []) (pJ29_init G) 4000 _ _ _ _ h
/-- java/util/TreeMap navigableKeySet()Ljava/util/NavigableSet; @0 -/
theorem gJ6_navigableKeySet_0 (G : JG) {Rt : JRt} (this : Option Nat) {H : JHp} (h :
  ∃ (a1 : Nat) (fs2 : List JVal) (r3 : Option Nat), this = some a1 ∧ job H a1 13 fs2 ∧ jn fs2 7 = some (jR r3) ∧
  (r3 = none →
    ∃ a4 : Nat, (some H.2.1) = some a4 ∧ /- J29_init -/ ∃ H5 : JHp, jok (jprog G) 49 [jR (some H.2.1), jR this] (jnew H (jO 22 [jR none]) 1) (.inl none) H5 ∧
    ∃ (a6 : Nat) (fs7 : List JVal) (v8 : JVal), this = some a6 ∧ H5.1 a6 = some (true, jO 13 fs7) ∧ jn fs7 7 = some v8 ∧
    Rt (.inl (some (jR (some H.2.1)))) (jup H5 a6 (jO 13 (jset fs7 7 (jR (some H.2.1)))))) ∧
  (¬ r3 = none →
    Rt (.inl (some (jR r3))) H)) :
  jwp (jprog G) 50 Rt 0 [some (jR this), none] [] H :=
  junf_wp (jprog_nf G) (stop := jmem []) (pJ6_navigableKeySet G) 4000 _ _ _ _ h
/-- java/util/TreeMap keySet()Ljava/util/Set; @0 -/
theorem gJ6_keySet_0 (G : JG) {Rt : JRt} (this : Option Nat) {H : JHp} (h :
  ∃ (a1 : Nat) (fs2 : List JVal), this = some a1 ∧ job H a1 13 fs2 ∧ /- J6_navigableKeySet -/ ∃ (r4 : Option Nat) (H3 : JHp), jok (jprog G) 50 [jR this] H (.inl (some (jR r4))) H3 ∧
  Rt (.inl (some (jR r4))) H3) :
  jwp (jprog G) 51 Rt 0 [some (jR this)] [] H :=
  junf_wp (jprog_nf G) (stop := jmem []) (pJ6_keySet G) 4000 _ _ _ _ h
/-- java/util/TreeMap getFirstEntry()Ljava/util/TreeMap$Entry; @0 -/
theorem gJ6_getFirstEntry_0 (G : JG) {Rt : JRt} (this : Option Nat) {H : JHp} (h :
  ∃ (a1 : Nat) (fs2 : List JVal) (r3 : Option Nat), this = some a1 ∧ job H a1 13 fs2 ∧ jn fs2 3 = some (jR r3) ∧
  (r3 = none →
    Rt (.inl (some (jR r3))) H) ∧
  (¬ r3 = none →
    jwp (jprog G) 52 Rt 9 [some (jR this), some (jR r3)] [] H)) :
  jwp (jprog G) 52 Rt 0 [some (jR this), none] [] H :=
  junf_wp (jprog_nf G) (stop := jmem [9]) (pJ6_getFirstEntry G) 4000 _ _ _ _ h
/-- java/util/TreeMap getFirstEntry()Ljava/util/TreeMap$Entry; @9 -/
theorem gJ6_getFirstEntry_9 (G : JG) {Rt : JRt} (q_0 : Option JVal) (r_1 : Option Nat) {H : JHp} (h :
  ∃ (a1 : Nat) (fs2 : List JVal) (r3 : Option Nat), r_1 = some a1 ∧ job H a1 25 fs2 ∧ jn fs2 2 = some (jR r3) ∧
  (r3 = none →
    Rt (.inl (some (jR r_1))) H) ∧
  (¬ r3 = none →
    ∃ (a4 : Nat) (fs5 : List JVal) (r6 : Option Nat), r_1 = some a4 ∧ job H a4 25 fs5 ∧ jn fs5 2 = some (jR r6) ∧
    jwp (jprog G) 52 Rt 9 [(jclr q_0), some (jR r6)] [] H)) :
  jwp (jprog G) 52 Rt 9 [q_0, some (jR r_1)] [] H :=
  junf_wp (jprog_nf G) (stop := jmem [9]) (pJ6_getFirstEntry G) 4000 _ _ _ _ h
/-- java/util/TreeMap$PrivateEntryIterator <init>(Ljava/util/TreeMap;Ljava/util/TreeMap$Entry;)V @0 -/
theorem gJ30_init__J31_0 (G : JG) {Rt : JRt} (this : Option Nat) (r_1 : Option Nat) (r_2 : Option Nat) {H : JHp} (h :
  ∃ (a1 : Nat) (fs2 : List JVal) (v3 : JVal), this = some a1 ∧ H.1 a1 = some (true, jO 23 fs2) ∧ jn fs2 3 = some v3 ∧
  ∃ a4 : Nat, this = some a4 ∧
  ∃ (a5 : Nat) (fs6 : List JVal) (x7 : Int32), r_1 = some a5 ∧ job (jup H a1 (jO 23 (jset fs2 3 (jR r_1)))) a5 13 fs6 ∧ jn fs6 5 = some (jI x7) ∧
  ∃ (a8 : Nat) (fs9 : List JVal) (v10 : JVal), this = some a8 ∧ (jup H a1 (jO 23 (jset fs2 3 (jR r_1)))).1 a8 = some (true, jO 23 fs9) ∧ jn fs9 2 = some v10 ∧
  ∃ (a11 : Nat) (fs12 : List JVal) (v13 : JVal), this = some a11 ∧ (jup (jup H a1 (jO 23 (jset fs2 3 (jR r_1)))) a8 (jO 23 (jset fs9 2 (jI x7)))).1 a11 = some (true, jO 23 fs12) ∧ jn fs12 1 = some v13 ∧
  ∃ (a14 : Nat) (fs15 : List JVal) (v16 : JVal), this = some a14 ∧ (jup (jup (jup H a1 (jO 23 (jset fs2 3 (jR r_1)))) a8 (jO 23 (jset fs9 2 (jI x7)))) a11 (jO 23 (jset fs12 1 (jR none)))).1 a14 = some (true, jO 23 fs15) ∧ jn fs15 0 = some v16 ∧
  Rt (.inl none) (jup (jup (jup (jup H a1 (jO 23 (jset fs2 3 (jR r_1)))) a8 (jO 23 (jset fs9 2 (jI x7)))) a11 (jO 23 (jset fs12 1 (jR none)))) a14 (jO 23 (jset fs15 0 (jR r_2))))) :
  jwp (jprog G) 53 Rt 0 [some (jR this), some (jR r_1), some (jR r_2)] [] H :=
  junf_wp (jprog_nf G) (stop := jmem []) (pJ30_init__J31 G) 4000 _ _ _ _ h
/-- java/util/TreeMap$KeyIterator <init>(Ljava/util/TreeMap;Ljava/util/TreeMap$Entry;)V @0 -/
theorem gJ31_init_0 (G : JG) {Rt : JRt} (this : Option Nat) (r_1 : Option Nat) (r_2 : Option Nat) {H : JHp} (h :
  ∃ a1 : Nat, this = some a1 ∧ /- J30_init__J31 -/ ∃ H2 : JHp, jok (jprog G) 53 [jR this, jR r_1, jR r_2] H (.inl none) H2 ∧
  Rt (.inl none) H2) :
  jwp (jprog G) 54 Rt 0 [some (jR this), some (jR r_1), some (jR r_2)] [] H :=
  junf_wp (jprog_nf G) (stop := jmem []) (pJ31_init G) 4000 _ _ _ _ h
/-- java/util/TreeMap keyIterator()Ljava/util/Iterator; @0 -/
theorem gJ6_keyIterator_0 (G : JG) {Rt : JRt} (this : Option Nat) {H : JHp} (h :
  ∃ (a1 : Nat) (fs2 : List JVal), this = some a1 ∧ job (jnew H (jO 23 [jR none, jR none, jI 0, jR none]) 4) a1 13 fs2 ∧ /- J6_getFirstEntry -/ ∃ (r4 : Option Nat) (H3 : JHp), jok (jprog G) 52 [jR this] (jnew H (jO 23 [jR none, jR none, jI 0, jR none]) 4) (.inl (some (jR r4))) H3 ∧
  ∃ a5 : Nat, (some H.2.1) = some a5 ∧ /- J31_init -/ ∃ H6 : JHp, jok (jprog G) 54 [jR (some H.2.1), jR this, jR r4] H3 (.inl none) H6 ∧
  Rt (.inl (some (jR (some H.2.1)))) H6) :
  jwp (jprog G) 55 Rt 0 [some (jR this)] [] H :=
  junf_wp (jprog_nf G) (stop := jmem []) (pJ6_keyIterator G) 4000 _ _ _ _ h
/-- java/util/TreeMap$KeySet iterator()Ljava/util/Iterator; @0 -/
theorem gJ29_iterator_0 (G : JG) {Rt : JRt} (this : Option Nat) {H : JHp} (h :
  ∃ (a1 : Nat) (fs2 : List JVal) (r3 : Option Nat), this = some a1 ∧ job H a1 22 fs2 ∧ jn fs2 0 = some (jR r3) ∧
  ∃ (a4 : Nat) (fs5 : List JVal), r3 = some a4 ∧ job H a4 13 fs5 ∧
  ((1 : Int32) = 0 →
    False) ∧
  (¬ (1 : Int32) = 0 →
    ∃ (a6 : Nat) (fs7 : List JVal) (r8 : Option Nat), this = some a6 ∧ job H a6 22 fs7 ∧ jn fs7 0 = some (jR r8) ∧
    (∀ a, r8 = some a → ∃ fs, job H a 13 fs) ∧
    ∃ (a9 : Nat) (fs10 : List JVal), r8 = some a9 ∧ job H a9 13 fs10 ∧ /- J6_keyIterator -/ ∃ (r12 : Option Nat) (H11 : JHp), jok (jprog G) 55 [jR r8] H (.inl (some (jR r12))) H11 ∧
    Rt (.inl (some (jR r12))) H11)) :
  jwp (jprog G) 56 Rt 0 [some (jR this)] [] H :=
  junf_wp (jprog_nf G) (stop := jmem []) (pJ29_iterator G) 4000 _ _ _ _ h
/-- java/util/TreeMap$PrivateEntryIterator hasNext()Z @0 -/
theorem gJ30_hasNext__J31_0 (G : JG) {Rt : JRt} (this : Option Nat) {H : JHp} (h :
  ∃ (a1 : Nat) (fs2 : List JVal) (r3 : Option Nat), this = some a1 ∧ job H a1 23 fs2 ∧ jn fs2 0 = some (jR r3) ∧
  (r3 = none →
    jbool (0 : Int32) ∧ Rt (.inl (some (jI 0))) H) ∧
  (¬ r3 = none →
    jbool (1 : Int32) ∧ Rt (.inl (some (jI 1))) H)) :
  jwp (jprog G) 57 Rt 0 [some (jR this)] [] H :=
  junf_wp (jprog_nf G) (stop := jmem []) (pJ30_hasNext__J31 G) 4000 _ _ _ _ h
/-- java/util/TreeMap successor(Ljava/util/TreeMap$Entry;)Ljava/util/TreeMap$Entry; @0 -/
theorem gJ6_successor_0 (G : JG) {Rt : JRt} (r_0 : Option Nat) {H : JHp} (h :
  ((¬ r_0 = none) →
    ∃ (a1 : Nat) (fs2 : List JVal) (r3 : Option Nat), r_0 = some a1 ∧ job H a1 25 fs2 ∧ jn fs2 3 = some (jR r3) ∧
    (r3 = none →
      ∃ (a4 : Nat) (fs5 : List JVal) (r6 : Option Nat), r_0 = some a4 ∧ job H a4 25 fs5 ∧ jn fs5 4 = some (jR r6) ∧
      jwp (jprog G) 58 Rt 42 [some (jR r_0), some (jR r6), some (jR r_0)] [] H) ∧
    (¬ r3 = none →
      ∃ (a7 : Nat) (fs8 : List JVal) (r9 : Option Nat), r_0 = some a7 ∧ job H a7 25 fs8 ∧ jn fs8 3 = some (jR r9) ∧
      jwp (jprog G) 58 Rt 18 [some (jR r_0), some (jR r9), none] [] H)) ∧
  (¬ (¬ r_0 = none) →
    Rt (.inl (some (jR none))) H)) :
  jwp (jprog G) 58 Rt 0 [some (jR r_0), none, none] [] H :=
  junf_wp (jprog_nf G) (stop := jmem [18, 42]) (pJ6_successor G) 4000 _ _ _ _ h
/-- java/util/TreeMap successor(Ljava/util/TreeMap$Entry;)Ljava/util/TreeMap$Entry; @18 -/
theorem gJ6_successor_18 (G : JG) {Rt : JRt} (q_0 : Option JVal) (r_1 : Option Nat) (q_2 : Option JVal) {H : JHp} (h :
  ∃ (a1 : Nat) (fs2 : List JVal) (r3 : Option Nat), r_1 = some a1 ∧ job H a1 25 fs2 ∧ jn fs2 2 = some (jR r3) ∧
  (r3 = none →
    Rt (.inl (some (jR r_1))) H) ∧
  (¬ r3 = none →
    ∃ (a4 : Nat) (fs5 : List JVal) (r6 : Option Nat), r_1 = some a4 ∧ job H a4 25 fs5 ∧ jn fs5 2 = some (jR r6) ∧
    jwp (jprog G) 58 Rt 18 [(jclr q_0), some (jR r6), q_2] [] H)) :
  jwp (jprog G) 58 Rt 18 [q_0, some (jR r_1), q_2] [] H :=
  junf_wp (jprog_nf G) (stop := jmem [18, 42]) (pJ6_successor G) 4000 _ _ _ _ h
/-- java/util/TreeMap successor(Ljava/util/TreeMap$Entry;)Ljava/util/TreeMap$Entry; @42 -/
theorem gJ6_successor_42 (G : JG) {Rt : JRt} (q_0 : Option JVal) (r_1 : Option Nat) (r_2 : Option Nat) {H : JHp} (h :
  (r_1 = none →
    Rt (.inl (some (jR r_1))) H) ∧
  (¬ r_1 = none →
    ∃ (a1 : Nat) (fs2 : List JVal) (r3 : Option Nat), r_1 = some a1 ∧ job H a1 25 fs2 ∧ jn fs2 3 = some (jR r3) ∧
    ((¬ r_2 = r3) →
      Rt (.inl (some (jR r_1))) H) ∧
    (¬ (¬ r_2 = r3) →
      ∃ (a4 : Nat) (fs5 : List JVal) (r6 : Option Nat), r_1 = some a4 ∧ job H a4 25 fs5 ∧ jn fs5 4 = some (jR r6) ∧
      jwp (jprog G) 58 Rt 42 [(jclr q_0), some (jR r6), some (jR r_1)] [] H))) :
  jwp (jprog G) 58 Rt 42 [q_0, some (jR r_1), some (jR r_2)] [] H :=
  junf_wp (jprog_nf G) (stop := jmem [18, 42]) (pJ6_successor G) 4000 _ _ _ _ h
/-- java/util/TreeMap$PrivateEntryIterator nextEntry()Ljava/util/TreeMap$Entry; @0 -/
theorem gJ30_nextEntry__J31_0 (G : JG) {Rt : JRt} (this : Option Nat) {H : JHp} (h :
  ∃ (a1 : Nat) (fs2 : List JVal) (r3 : Option Nat), this = some a1 ∧ job H a1 23 fs2 ∧ jn fs2 0 = some (jR r3) ∧
  ((¬ r3 = none) →
    ∃ (a4 : Nat) (fs5 : List JVal) (r6 : Option Nat), this = some a4 ∧ job H a4 23 fs5 ∧ jn fs5 3 = some (jR r6) ∧
    ∃ (a7 : Nat) (fs8 : List JVal) (x9 : Int32), r6 = some a7 ∧ job H a7 13 fs8 ∧ jn fs8 5 = some (jI x9) ∧
    ∃ (a10 : Nat) (fs11 : List JVal) (x12 : Int32), this = some a10 ∧ job H a10 23 fs11 ∧ jn fs11 2 = some (jI x12) ∧
    (x9 = x12 →
      /- J6_successor -/ ∃ (r14 : Option Nat) (H13 : JHp), jok (jprog G) 58 [jR r3] H (.inl (some (jR r14))) H13 ∧
      ∃ (a15 : Nat) (fs16 : List JVal) (v17 : JVal), this = some a15 ∧ H13.1 a15 = some (true, jO 23 fs16) ∧ jn fs16 0 = some v17 ∧
      ∃ (a18 : Nat) (fs19 : List JVal) (v20 : JVal), this = some a18 ∧ (jup H13 a15 (jO 23 (jset fs16 0 (jR r14)))).1 a18 = some (true, jO 23 fs19) ∧ jn fs19 1 = some v20 ∧
      Rt (.inl (some (jR r3))) (jup (jup H13 a15 (jO 23 (jset fs16 0 (jR r14)))) a18 (jO 23 (jset fs19 1 (jR r3))))) ∧
    (¬ x9 = x12 →
      False)) ∧
  (¬ (¬ r3 = none) →
    False)) :
  jwp (jprog G) 59 Rt 0 [some (jR this), none] [] H :=
  junf_wp (jprog_nf G) (stop := jmem []) (pJ30_nextEntry__J31 G) 4000 _ _ _ _ h
/-- java/util/TreeMap$KeyIterator next()Ljava/lang/Object; @0 -/
theorem gJ31_next_0 (G : JG) {Rt : JRt} (this : Option Nat) {H : JHp} (h :
  ∃ (a1 : Nat) (fs2 : List JVal), this = some a1 ∧ job H a1 23 fs2 ∧ /- J30_nextEntry__J31 -/ ∃ (r4 : Option Nat) (H3 : JHp), jok (jprog G) 59 [jR this] H (.inl (some (jR r4))) H3 ∧
  ∃ (a5 : Nat) (fs6 : List JVal) (r7 : Option Nat), r4 = some a5 ∧ job H3 a5 25 fs6 ∧ jn fs6 0 = some (jR r7) ∧
  Rt (.inl (some (jR r7))) H3) :
  jwp (jprog G) 60 Rt 0 [some (jR this)] [] H :=
  junf_wp (jprog_nf G) (stop := jmem []) (pJ31_next G) 4000 _ _ _ _ h
/-- java/lang/Integer intValue()I @0 -/
theorem gJ25_intValue_0 (G : JG) {Rt : JRt} (this : Option Nat) {H : JHp} (h :
  ∃ (a1 : Nat) (fs2 : List JVal) (x3 : Int32), this = some a1 ∧ job H a1 21 fs2 ∧ jn fs2 0 = some (jI x3) ∧
  Rt (.inl (some (jI x3))) H) :
  jwp (jprog G) 61 Rt 0 [some (jR this)] [] H :=
  junf_wp (jprog_nf G) (stop := jmem []) (pJ25_intValue G) 4000 _ _ _ _ h
/-- java/util/BitSet wordIndex(I)I @0 -/
theorem gJ32_wordIndex_0 (G : JG) {Rt : JRt} (i_0 : Int32) {H : JHp} (h :
  Rt (.inl (some (jI (jshr i_0 (6 : Int32))))) H) :
  jwp (jprog G) 62 Rt 0 [some (jI i_0)] [] H :=
  junf_wp (jprog_nf G) (stop := jmem []) (pJ32_wordIndex G) 4000 _ _ _ _ h
/-- java/util/BitSet initWords(I)V @0 -/
theorem gJ32_initWords_0 (G : JG) {Rt : JRt} (this : Option Nat) (i_1 : Int32) {H : JHp} (h :
  /- J32_wordIndex -/ ∃ (x2 : Int32) (H1 : JHp), jok (jprog G) 62 [jI (i_1 - (1 : Int32))] H (.inl (some (jI x2))) H1 ∧
  ¬ (x2 + (1 : Int32)) < 0 ∧ ((x2 + (1 : Int32))).toNatClampNeg ≤ 65536 ∧
  ∃ (a3 : Nat) (fs4 : List JVal) (v5 : JVal), this = some a3 ∧ (jnew H1 (jA 1 (aL ((x2 + (1 : Int32))).toNatClampNeg (fun _ => 0))) ((x2 + (1 : Int32))).toNatClampNeg).1 a3 = some (true, jO 24 fs4) ∧ jn fs4 0 = some v5 ∧
  Rt (.inl none) (jup (jnew H1 (jA 1 (aL ((x2 + (1 : Int32))).toNatClampNeg (fun _ => 0))) ((x2 + (1 : Int32))).toNatClampNeg) a3 (jO 24 (jset fs4 0 (jR (some H1.2.1)))))) :
  jwp (jprog G) 63 Rt 0 [some (jR this), some (jI i_1)] [] H :=
  junf_wp (jprog_nf G) (stop := jmem []) (pJ32_initWords G) 4000 _ _ _ _ h
/-- java/util/BitSet <init>()V @0 -/
theorem gJ32_init_0 (G : JG) {Rt : JRt} (this : Option Nat) {H : JHp} (h :
  ∃ a1 : Nat, this = some a1 ∧
  ∃ (a2 : Nat) (fs3 : List JVal) (v4 : JVal), this = some a2 ∧ H.1 a2 = some (true, jO 24 fs3) ∧ jn fs3 1 = some v4 ∧
  jbool (0 : Int32) ∧ ∃ (a5 : Nat) (fs6 : List JVal) (v7 : JVal), this = some a5 ∧ (jup H a2 (jO 24 (jset fs3 1 (jI 0)))).1 a5 = some (true, jO 24 fs6) ∧ jn fs6 2 = some v7 ∧
  ∃ (a8 : Nat) (fs9 : List JVal), this = some a8 ∧ job (jup (jup H a2 (jO 24 (jset fs3 1 (jI 0)))) a5 (jO 24 (jset fs6 2 (jI 0)))) a8 24 fs9 ∧ /- J32_initWords -/ ∃ H10 : JHp, jok (jprog G) 63 [jR this, jI 64] (jup (jup H a2 (jO 24 (jset fs3 1 (jI 0)))) a5 (jO 24 (jset fs6 2 (jI 0)))) (.inl none) H10 ∧
  jbool (0 : Int32) ∧ ∃ (a11 : Nat) (fs12 : List JVal) (v13 : JVal), this = some a11 ∧ H10.1 a11 = some (true, jO 24 fs12) ∧ jn fs12 2 = some v13 ∧
  Rt (.inl none) (jup H10 a11 (jO 24 (jset fs12 2 (jI 0))))) :
  jwp (jprog G) 64 Rt 0 [some (jR this)] [] H :=
  junf_wp (jprog_nf G) (stop := jmem []) (pJ32_init G) 4000 _ _ _ _ h
/-- java/lang/Number <init>()V @0 -/
theorem gJ24_init__J25_0 (G : JG) {Rt : JRt} (this : Option Nat) {H : JHp} (h :
  ∃ a1 : Nat, this = some a1 ∧
  Rt (.inl none) H) :
  jwp (jprog G) 65 Rt 0 [some (jR this)] [] H :=
  junf_wp (jprog_nf G) (stop := jmem []) (pJ24_init__J25 G) 4000 _ _ _ _ h
/-- java/lang/Integer <init>(I)V @0 -/
theorem gJ25_init_0 (G : JG) {Rt : JRt} (this : Option Nat) (i_1 : Int32) {H : JHp} (h :
  ∃ a1 : Nat, this = some a1 ∧ /- J24_init__J25 -/ ∃ H2 : JHp, jok (jprog G) 65 [jR this] H (.inl none) H2 ∧
  ∃ (a3 : Nat) (fs4 : List JVal) (v5 : JVal), this = some a3 ∧ H2.1 a3 = some (true, jO 21 fs4) ∧ jn fs4 0 = some v5 ∧
  Rt (.inl none) (jup H2 a3 (jO 21 (jset fs4 0 (jI i_1))))) :
  jwp (jprog G) 66 Rt 0 [some (jR this), some (jI i_1)] [] H :=
  junf_wp (jprog_nf G) (stop := jmem []) (pJ25_init G) 4000 _ _ _ _ h
/-- java/lang/Integer valueOf(I)Ljava/lang/Integer; @0 -/
theorem gJ25_valueOf_0 (G : JG) {Rt : JRt} (i_0 : Int32) {H : JHp} (h :
  (i_0 < (-128 : Int32) →
    ∃ a1 : Nat, (some H.2.1) = some a1 ∧ /- J25_init -/ ∃ H2 : JHp, jok (jprog G) 66 [jR (some H.2.1), jI i_0] (jnew H (jO 21 [jI 0]) 1) (.inl none) H2 ∧
    Rt (.inl (some (jR (some H.2.1)))) H2) ∧
  (¬ i_0 < (-128 : Int32) →
    ((127 : Int32) < i_0 →
      ∃ a3 : Nat, (some H.2.1) = some a3 ∧ /- J25_init -/ ∃ H4 : JHp, jok (jprog G) 66 [jR (some H.2.1), jI i_0] (jnew H (jO 21 [jI 0]) 1) (.inl none) H4 ∧
      Rt (.inl (some (jR (some H.2.1)))) H4) ∧
    (¬ (127 : Int32) < i_0 →
      ∃ (a5 n6 : Nat) (f7 : Nat → Option Nat), (some (G.1 0)) = some a5 ∧ jar H a5 5 (aR n6 f7) ∧ vp_in (i_0 + (128 : Int32)) n6 ∧
      Rt (.inl (some (jR (f7 ((i_0 + (128 : Int32))).toNatClampNeg)))) H))) :
  jwp (jprog G) 67 Rt 0 [some (jI i_0)] [] H :=
  junf_wp (jprog_nf G) (stop := jmem []) (pJ25_valueOf G) 4000 _ _ _ _ h
/-- java/util/Objects requireNonNull(Ljava/lang/Object;)Ljava/lang/Object; @0 -/
theorem gJ13_requireNonNull_0 (G : JG) {Rt : JRt} (r_0 : Option Nat) {H : JHp} (h :
  ((¬ r_0 = none) →
    Rt (.inl (some (jR r_0))) H) ∧
  (¬ (¬ r_0 = none) →
    False)) :
  jwp (jprog G) 68 Rt 0 [some (jR r_0)] [] H :=
  junf_wp (jprog_nf G) (stop := jmem []) (pJ13_requireNonNull G) 4000 _ _ _ _ h
/-- java/lang/Integer compare(II)I @0 -/
theorem gJ25_compare_0 (G : JG) {Rt : JRt} (i_0 : Int32) (i_1 : Int32) {H : JHp} (h :
  (i_1 ≤ i_0 →
    (¬ i_0 = i_1 →
      Rt (.inl (some (jI 1))) H) ∧
    (¬ ¬ i_0 = i_1 →
      Rt (.inl (some (jI 0))) H)) ∧
  (¬ i_1 ≤ i_0 →
    Rt (.inl (some (jI (-1)))) H)) :
  jwp (jprog G) 69 Rt 0 [some (jI i_0), some (jI i_1)] [] H :=
  junf_wp (jprog_nf G) (stop := jmem []) (pJ25_compare G) 4000 _ _ _ _ h
/-- java/lang/Integer compareTo(Ljava/lang/Integer;)I @0 -/
theorem gJ25_compareTo_2_0 (G : JG) {Rt : JRt} (this : Option Nat) (r_1 : Option Nat) {H : JHp} (h :
  ∃ (a1 : Nat) (fs2 : List JVal) (x3 : Int32), this = some a1 ∧ job H a1 21 fs2 ∧ jn fs2 0 = some (jI x3) ∧
  ∃ (a4 : Nat) (fs5 : List JVal) (x6 : Int32), r_1 = some a4 ∧ job H a4 21 fs5 ∧ jn fs5 0 = some (jI x6) ∧
  /- J25_compare -/ ∃ (x8 : Int32) (H7 : JHp), jok (jprog G) 69 [jI x3, jI x6] H (.inl (some (jI x8))) H7 ∧
  Rt (.inl (some (jI x8))) H7) :
  jwp (jprog G) 70 Rt 0 [some (jR this), some (jR r_1)] [] H :=
  junf_wp (jprog_nf G) (stop := jmem []) (pJ25_compareTo_2 G) 4000 _ _ _ _ h
/-- java/lang/Integer compareTo(Ljava/lang/Object;)I @0 -/
theorem gJ25_compareTo_0 (G : JG) {Rt : JRt} (this : Option Nat) (r_1 : Option Nat) {H : JHp} (h :
  (∀ a, r_1 = some a → ∃ fs, job H a 21 fs) ∧
  ∃ (a1 : Nat) (fs2 : List JVal), this = some a1 ∧ job H a1 21 fs2 ∧ /- J25_compareTo_2 -/ ∃ (x4 : Int32) (H3 : JHp), jok (jprog G) 70 [jR this, jR r_1] H (.inl (some (jI x4))) H3 ∧
  Rt (.inl (some (jI x4))) H3) :
  jwp (jprog G) 71 Rt 0 [some (jR this), some (jR r_1)] [] H :=
  junf_wp (jprog_nf G) (stop := jmem []) (pJ25_compareTo G) 4000 _ _ _ _ h
/-- java/util/TreeMap getEntry(Ljava/lang/Object;)Ljava/util/TreeMap$Entry; @0 -/
theorem gJ6_getEntry_0 (G : JG) {Rt : JRt} (this : Option Nat) (r_1 : Option Nat) {H : JHp} (h :
  ∃ (a1 : Nat) (fs2 : List JVal) (r3 : Option Nat), this = some a1 ∧ job H a1 13 fs2 ∧ jn fs2 2 = some (jR r3) ∧
  (r3 = none →
    /- J13_requireNonNull -/ ∃ (r5 : Option Nat) (H4 : JHp), jok (jprog G) 68 [jR r_1] H (.inl (some (jR r5))) H4 ∧
    (∀ a, r_1 = some a → ∃ fs, job H4 a 21 fs) ∧
    ∃ (a6 : Nat) (fs7 : List JVal) (r8 : Option Nat), this = some a6 ∧ job H4 a6 13 fs7 ∧ jn fs7 3 = some (jR r8) ∧
    jwp (jprog G) 72 Rt 28 [some (jR this), some (jR r_1), some (jR r_1), some (jR r8), none] [] H4) ∧
  (¬ r3 = none →
    False)) :
  jwp (jprog G) 72 Rt 0 [some (jR this), some (jR r_1), none, none, none] [] H :=
  junf_wp (jprog_nf G) (stop := jmem [28]) (pJ6_getEntry G) 4000 _ _ _ _ h
/-- java/util/TreeMap getEntry(Ljava/lang/Object;)Ljava/util/TreeMap$Entry; @28 -/
theorem gJ6_getEntry_28 (G : JG) {Rt : JRt} (q_0 : Option JVal) (q_1 : Option JVal) (r_2 : Option Nat) (r_3 : Option Nat) (q_4 : Option JVal) {H : JHp} (h :
  (r_3 = none →
    Rt (.inl (some (jR none))) H) ∧
  (¬ r_3 = none →
    ∃ (a1 : Nat) (fs2 : List JVal) (r3 : Option Nat), r_3 = some a1 ∧ job H a1 25 fs2 ∧ jn fs2 0 = some (jR r3) ∧
    ∃ (a4 : Nat) (fs5 : List JVal), r_2 = some a4 ∧ job H a4 21 fs5 ∧ /- J25_compareTo -/ ∃ (x7 : Int32) (H6 : JHp), jok (jprog G) 71 [jR r_2, jR r3] H (.inl (some (jI x7))) H6 ∧
    (0 ≤ x7 →
      (x7 ≤ 0 →
        Rt (.inl (some (jR r_3))) H6) ∧
      (¬ x7 ≤ 0 →
        ∃ (a8 : Nat) (fs9 : List JVal) (r10 : Option Nat), r_3 = some a8 ∧ job H6 a8 25 fs9 ∧ jn fs9 3 = some (jR r10) ∧
        jwp (jprog G) 72 Rt 28 [q_0, q_1, some (jR r_2), some (jR r10), some (jI x7)] [] H6)) ∧
    (¬ 0 ≤ x7 →
      ∃ (a11 : Nat) (fs12 : List JVal) (r13 : Option Nat), r_3 = some a11 ∧ job H6 a11 25 fs12 ∧ jn fs12 2 = some (jR r13) ∧
      jwp (jprog G) 72 Rt 28 [q_0, q_1, some (jR r_2), some (jR r13), some (jI x7)] [] H6))) :
  jwp (jprog G) 72 Rt 28 [q_0, q_1, some (jR r_2), some (jR r_3), q_4] [] H :=
  junf_wp (jprog_nf G) (stop := jmem [28]) (pJ6_getEntry G) 4000 _ _ _ _ h
/-- java/util/TreeMap get(Ljava/lang/Object;)Ljava/lang/Object; @0 -/
theorem gJ6_get_0 (G : JG) {Rt : JRt} (this : Option Nat) (r_1 : Option Nat) {H : JHp} (h :
  ∃ (a1 : Nat) (fs2 : List JVal), this = some a1 ∧ job H a1 13 fs2 ∧ /- J6_getEntry -/ ∃ (r4 : Option Nat) (H3 : JHp), jok (jprog G) 72 [jR this, jR r_1] H (.inl (some (jR r4))) H3 ∧
  ((¬ r4 = none) →
    ∃ (a5 : Nat) (fs6 : List JVal) (r7 : Option Nat), r4 = some a5 ∧ job H3 a5 25 fs6 ∧ jn fs6 1 = some (jR r7) ∧
    Rt (.inl (some (jR r7))) H3) ∧
  (¬ (¬ r4 = none) →
    Rt (.inl (some (jR none))) H3)) :
  jwp (jprog G) 73 Rt 0 [some (jR this), some (jR r_1), none] [] H :=
  junf_wp (jprog_nf G) (stop := jmem []) (pJ6_get G) 4000 _ _ _ _ h
/-- java/util/BitSet ensureCapacity(I)V @0 -/
theorem gJ32_ensureCapacity_0 (G : JG) {Rt : JRt} (this : Option Nat) (i_1 : Int32) {H : JHp} (h :
  ∃ (a1 : Nat) (fs2 : List JVal) (r3 : Option Nat), this = some a1 ∧ job H a1 24 fs2 ∧ jn fs2 0 = some (jR r3) ∧
  ∃ (a4 : Nat) (A5 : vp_A), r3 = some a4 ∧ jar H a4 1 A5 ∧
  (i_1 ≤ (nI A5.1) →
    Rt (.inl none) H) ∧
  (¬ i_1 ≤ (nI A5.1) →
    False)) :
  jwp (jprog G) 74 Rt 0 [some (jR this), some (jI i_1), none] [] H :=
  junf_wp (jprog_nf G) (stop := jmem []) (pJ32_ensureCapacity G) 4000 _ _ _ _ h
/-- java/util/BitSet checkInvariants()V @0 -/
theorem gJ32_checkInvariants_0 (G : JG) {Rt : JRt} (this : Option Nat) {H : JHp} (h :
  (¬ (1 : Int32) = 0 →
    (¬ (1 : Int32) = 0 →
      jwp (jprog G) 75 Rt 70 [some (jR this)] [] H) ∧
    (¬ ¬ (1 : Int32) = 0 →
      ∃ (a1 : Nat) (fs2 : List JVal) (x3 : Int32), this = some a1 ∧ job H a1 24 fs2 ∧ jn fs2 1 = some (jI x3) ∧
      (x3 < 0 →
        False) ∧
      (¬ x3 < 0 →
        ∃ (a4 : Nat) (fs5 : List JVal) (x6 : Int32), this = some a4 ∧ job H a4 24 fs5 ∧ jn fs5 1 = some (jI x6) ∧
        ∃ (a7 : Nat) (fs8 : List JVal) (r9 : Option Nat), this = some a7 ∧ job H a7 24 fs8 ∧ jn fs8 0 = some (jR r9) ∧
        ∃ (a10 : Nat) (A11 : vp_A), r9 = some a10 ∧ jar H a10 1 A11 ∧
        (x6 ≤ (nI A11.1) →
          jwp (jprog G) 75 Rt 70 [some (jR this)] [] H) ∧
        (¬ x6 ≤ (nI A11.1) →
          False)))) ∧
  (¬ ¬ (1 : Int32) = 0 →
    ∃ (a12 : Nat) (fs13 : List JVal) (x14 : Int32), this = some a12 ∧ job H a12 24 fs13 ∧ jn fs13 1 = some (jI x14) ∧
    (x14 = 0 →
      (¬ (1 : Int32) = 0 →
        jwp (jprog G) 75 Rt 70 [some (jR this)] [] H) ∧
      (¬ ¬ (1 : Int32) = 0 →
        ∃ (a15 : Nat) (fs16 : List JVal) (x17 : Int32), this = some a15 ∧ job H a15 24 fs16 ∧ jn fs16 1 = some (jI x17) ∧
        (x17 < 0 →
          False) ∧
        (¬ x17 < 0 →
          ∃ (a18 : Nat) (fs19 : List JVal) (x20 : Int32), this = some a18 ∧ job H a18 24 fs19 ∧ jn fs19 1 = some (jI x20) ∧
          ∃ (a21 : Nat) (fs22 : List JVal) (r23 : Option Nat), this = some a21 ∧ job H a21 24 fs22 ∧ jn fs22 0 = some (jR r23) ∧
          ∃ (a24 : Nat) (A25 : vp_A), r23 = some a24 ∧ jar H a24 1 A25 ∧
          (x20 ≤ (nI A25.1) →
            jwp (jprog G) 75 Rt 70 [some (jR this)] [] H) ∧
          (¬ x20 ≤ (nI A25.1) →
            False)))) ∧
    (¬ x14 = 0 →
      ∃ (a26 : Nat) (fs27 : List JVal) (r28 : Option Nat), this = some a26 ∧ job H a26 24 fs27 ∧ jn fs27 0 = some (jR r28) ∧
      ∃ (a29 : Nat) (fs30 : List JVal) (x31 : Int32), this = some a29 ∧ job H a29 24 fs30 ∧ jn fs30 1 = some (jI x31) ∧
      ∃ (a32 n33 : Nat) (f34 : Nat → Int64), r28 = some a32 ∧ jar H a32 1 (aL n33 f34) ∧ vp_in (x31 - (1 : Int32)) n33 ∧
      (¬ (lg_cmp (f34 ((x31 - (1 : Int32))).toNatClampNeg) (0 : Int64)) = 0 →
        (¬ (1 : Int32) = 0 →
          jwp (jprog G) 75 Rt 70 [some (jR this)] [] H) ∧
        (¬ ¬ (1 : Int32) = 0 →
          ∃ (a35 : Nat) (fs36 : List JVal) (x37 : Int32), this = some a35 ∧ job H a35 24 fs36 ∧ jn fs36 1 = some (jI x37) ∧
          (x37 < 0 →
            False) ∧
          (¬ x37 < 0 →
            ∃ (a38 : Nat) (fs39 : List JVal) (x40 : Int32), this = some a38 ∧ job H a38 24 fs39 ∧ jn fs39 1 = some (jI x40) ∧
            ∃ (a41 : Nat) (fs42 : List JVal) (r43 : Option Nat), this = some a41 ∧ job H a41 24 fs42 ∧ jn fs42 0 = some (jR r43) ∧
            ∃ (a44 : Nat) (A45 : vp_A), r43 = some a44 ∧ jar H a44 1 A45 ∧
            (x40 ≤ (nI A45.1) →
              jwp (jprog G) 75 Rt 70 [some (jR this)] [] H) ∧
            (¬ x40 ≤ (nI A45.1) →
              False)))) ∧
      (¬ ¬ (lg_cmp (f34 ((x31 - (1 : Int32))).toNatClampNeg) (0 : Int64)) = 0 →
        False)))) :
  jwp (jprog G) 75 Rt 0 [some (jR this)] [] H :=
  junf_wp (jprog_nf G) (stop := jmem [70]) (pJ32_checkInvariants G) 4000 _ _ _ _ h
/-- java/util/BitSet checkInvariants()V @70 -/
theorem gJ32_checkInvariants_70 (G : JG) {Rt : JRt} (r_0 : Option Nat) {H : JHp} (h :
  (¬ (1 : Int32) = 0 →
    Rt (.inl none) H) ∧
  (¬ ¬ (1 : Int32) = 0 →
    ∃ (a1 : Nat) (fs2 : List JVal) (x3 : Int32), r_0 = some a1 ∧ job H a1 24 fs2 ∧ jn fs2 1 = some (jI x3) ∧
    ∃ (a4 : Nat) (fs5 : List JVal) (r6 : Option Nat), r_0 = some a4 ∧ job H a4 24 fs5 ∧ jn fs5 0 = some (jR r6) ∧
    ∃ (a7 : Nat) (A8 : vp_A), r6 = some a7 ∧ jar H a7 1 A8 ∧
    (x3 = (nI A8.1) →
      Rt (.inl none) H) ∧
    (¬ x3 = (nI A8.1) →
      ∃ (a9 : Nat) (fs10 : List JVal) (r11 : Option Nat), r_0 = some a9 ∧ job H a9 24 fs10 ∧ jn fs10 0 = some (jR r11) ∧
      ∃ (a12 : Nat) (fs13 : List JVal) (x14 : Int32), r_0 = some a12 ∧ job H a12 24 fs13 ∧ jn fs13 1 = some (jI x14) ∧
      ∃ (a15 n16 : Nat) (f17 : Nat → Int64), r11 = some a15 ∧ jar H a15 1 (aL n16 f17) ∧ vp_in x14 n16 ∧
      ((lg_cmp (f17 (x14).toNatClampNeg) (0 : Int64)) = 0 →
        Rt (.inl none) H) ∧
      (¬ (lg_cmp (f17 (x14).toNatClampNeg) (0 : Int64)) = 0 →
        False)))) :
  jwp (jprog G) 75 Rt 70 [some (jR r_0)] [] H :=
  junf_wp (jprog_nf G) (stop := jmem [70]) (pJ32_checkInvariants G) 4000 _ _ _ _ h
/-- java/util/BitSet or(Ljava/util/BitSet;)V @0 -/
theorem gJ32_or_0 (G : JG) {Rt : JRt} (this : Option Nat) (r_1 : Option Nat) {H : JHp} (h :
  ((¬ this = r_1) →
    ∃ (a1 : Nat) (fs2 : List JVal) (x3 : Int32), this = some a1 ∧ job H a1 24 fs2 ∧ jn fs2 1 = some (jI x3) ∧
    ∃ (a4 : Nat) (fs5 : List JVal) (x6 : Int32), r_1 = some a4 ∧ job H a4 24 fs5 ∧ jn fs5 1 = some (jI x6) ∧
    /- J20_min -/ ∃ (x8 : Int32) (H7 : JHp), jok (jprog G) 37 [jI x3, jI x6] H (.inl (some (jI x8))) H7 ∧
    ∃ (a9 : Nat) (fs10 : List JVal) (x11 : Int32), this = some a9 ∧ job H7 a9 24 fs10 ∧ jn fs10 1 = some (jI x11) ∧
    ∃ (a12 : Nat) (fs13 : List JVal) (x14 : Int32), r_1 = some a12 ∧ job H7 a12 24 fs13 ∧ jn fs13 1 = some (jI x14) ∧
    (x14 ≤ x11 →
      jwp (jprog G) 76 Rt 47 [some (jR this), some (jR r_1), some (jI x8), some (jI 0)] [] H7) ∧
    (¬ x14 ≤ x11 →
      ∃ (a15 : Nat) (fs16 : List JVal) (x17 : Int32), r_1 = some a15 ∧ job H7 a15 24 fs16 ∧ jn fs16 1 = some (jI x17) ∧
      ∃ (a18 : Nat) (fs19 : List JVal), this = some a18 ∧ job H7 a18 24 fs19 ∧ /- J32_ensureCapacity -/ ∃ H20 : JHp, jok (jprog G) 74 [jR this, jI x17] H7 (.inl none) H20 ∧
      ∃ (a21 : Nat) (fs22 : List JVal) (x23 : Int32), r_1 = some a21 ∧ job H20 a21 24 fs22 ∧ jn fs22 1 = some (jI x23) ∧
      ∃ (a24 : Nat) (fs25 : List JVal) (v26 : JVal), this = some a24 ∧ H20.1 a24 = some (true, jO 24 fs25) ∧ jn fs25 1 = some v26 ∧
      jwp (jprog G) 76 Rt 47 [some (jR this), some (jR r_1), some (jI x8), some (jI 0)] [] (jup H20 a24 (jO 24 (jset fs25 1 (jI x23)))))) ∧
  (¬ (¬ this = r_1) →
    Rt (.inl none) H)) :
  jwp (jprog G) 76 Rt 0 [some (jR this), some (jR r_1), none, none] [] H :=
  junf_wp (jprog_nf G) (stop := jmem [47]) (pJ32_or G) 4000 _ _ _ _ h
/-- java/util/BitSet or(Ljava/util/BitSet;)V @47 -/
theorem gJ32_or_47 (G : JG) {Rt : JRt} (r_0 : Option Nat) (r_1 : Option Nat) (i_2 : Int32) (i_3 : Int32) {H : JHp} (h :
  (i_2 ≤ i_3 →
    ∃ (a1 : Nat) (fs2 : List JVal) (x3 : Int32), r_1 = some a1 ∧ job H a1 24 fs2 ∧ jn fs2 1 = some (jI x3) ∧
    (x3 ≤ i_2 →
      ∃ (a4 : Nat) (fs5 : List JVal), r_0 = some a4 ∧ job H a4 24 fs5 ∧ /- J32_checkInvariants -/ ∃ H6 : JHp, jok (jprog G) 75 [jR r_0] H (.inl none) H6 ∧
      Rt (.inl none) H6) ∧
    (¬ x3 ≤ i_2 →
      ∃ (a7 : Nat) (fs8 : List JVal) (r9 : Option Nat), r_1 = some a7 ∧ job H a7 24 fs8 ∧ jn fs8 0 = some (jR r9) ∧
      ∃ (a10 : Nat) (fs11 : List JVal) (r12 : Option Nat), r_0 = some a10 ∧ job H a10 24 fs11 ∧ jn fs11 0 = some (jR r12) ∧
      ∃ (a13 : Nat) (fs14 : List JVal) (x15 : Int32), r_0 = some a13 ∧ job H a13 24 fs14 ∧ jn fs14 1 = some (jI x15) ∧
      ∃ (a16 b16 n16 m16 : Nat) (f16 g16 : Nat → Int64) (sp16 dp16 k16 : Nat), r9 = some a16 ∧ r12 = some b16 ∧ jar H a16 1 (aL n16 f16) ∧ H.1 b16 = some (true, jA 1 (aL m16 g16)) ∧ i_2 = nI sp16 ∧ i_2 = nI dp16 ∧ (x15 - i_2) = nI k16 ∧ sp16 + k16 ≤ n16 ∧ dp16 + k16 ≤ m16 ∧ n16 < 2 ^ 31 ∧ m16 < 2 ^ 31 ∧ True ∧
      ∃ (a17 : Nat) (fs18 : List JVal), r_0 = some a17 ∧ job (jup H b16 (jA 1 (aL m16 (va_cpy f16 g16 sp16 dp16 k16)))) a17 24 fs18 ∧ /- J32_checkInvariants -/ ∃ H19 : JHp, jok (jprog G) 75 [jR r_0] (jup H b16 (jA 1 (aL m16 (va_cpy f16 g16 sp16 dp16 k16)))) (.inl none) H19 ∧
      Rt (.inl none) H19)) ∧
  (¬ i_2 ≤ i_3 →
    ∃ (a20 : Nat) (fs21 : List JVal) (r22 : Option Nat), r_0 = some a20 ∧ job H a20 24 fs21 ∧ jn fs21 0 = some (jR r22) ∧
    ∃ (a23 n24 : Nat) (f25 : Nat → Int64), r22 = some a23 ∧ jar H a23 1 (aL n24 f25) ∧ vp_in i_3 n24 ∧
    ∃ (a26 : Nat) (fs27 : List JVal) (r28 : Option Nat), r_1 = some a26 ∧ job H a26 24 fs27 ∧ jn fs27 0 = some (jR r28) ∧
    ∃ (a29 n30 : Nat) (f31 : Nat → Int64), r28 = some a29 ∧ jar H a29 1 (aL n30 f31) ∧ vp_in i_3 n30 ∧
    ∃ (a32 n33 : Nat) (f34 : Nat → Int64), r22 = some a32 ∧ H.1 a32 = some (true, jA 1 (aL n33 f34)) ∧ vp_in i_3 n33 ∧ 
    jwp (jprog G) 76 Rt 47 [some (jR r_0), some (jR r_1), some (jI i_2), some (jI (i_3 + 1))] [] (jup H a32 (jA 1 (aL n33 (vp_updL f34 (i_3).toNatClampNeg ((f25 (i_3).toNatClampNeg) ||| (f31 (i_3).toNatClampNeg)))))))) :
  jwp (jprog G) 76 Rt 47 [some (jR r_0), some (jR r_1), some (jI i_2), some (jI i_3)] [] H :=
  junf_wp (jprog_nf G) (stop := jmem [47]) (pJ32_or G) 4000 _ _ _ _ h
/-- java/util/TreeMap compare(Ljava/lang/Object;Ljava/lang/Object;)I @0 -/
theorem gJ6_compare_0 (G : JG) {Rt : JRt} (this : Option Nat) (r_1 : Option Nat) (r_2 : Option Nat) {H : JHp} (h :
  ∃ (a1 : Nat) (fs2 : List JVal) (r3 : Option Nat), this = some a1 ∧ job H a1 13 fs2 ∧ jn fs2 2 = some (jR r3) ∧
  ((¬ r3 = none) →
    ∃ (a4 : Nat) (fs5 : List JVal) (r6 : Option Nat), this = some a4 ∧ job H a4 13 fs5 ∧ jn fs5 2 = some (jR r6) ∧
    ∃ (a7 : Nat) (fs8 : List JVal), r6 = some a7 ∧ job H a7 2 fs8 ∧ /- X2_compare -/ ∃ (x10 : Int32) (H9 : JHp), jok (jprog G) 42 [jR r6, jR r_1, jR r_2] H (.inl (some (jI x10))) H9 ∧
    Rt (.inl (some (jI x10))) H9) ∧
  (¬ (¬ r3 = none) →
    (∀ a, r_1 = some a → ∃ fs, job H a 21 fs) ∧
    ∃ (a11 : Nat) (fs12 : List JVal), r_1 = some a11 ∧ job H a11 21 fs12 ∧ /- J25_compareTo -/ ∃ (x14 : Int32) (H13 : JHp), jok (jprog G) 71 [jR r_1, jR r_2] H (.inl (some (jI x14))) H13 ∧
    Rt (.inl (some (jI x14))) H13)) :
  jwp (jprog G) 77 Rt 0 [some (jR this), some (jR r_1), some (jR r_2)] [] H :=
  junf_wp (jprog_nf G) (stop := jmem []) (pJ6_compare G) 4000 _ _ _ _ h
/-- java/util/TreeMap$Entry <init>(Ljava/lang/Object;Ljava/lang/Object;Ljava/util/TreeMap$Entry;)V @0 -/
theorem gJ33_init_0 (G : JG) {Rt : JRt} (this : Option Nat) (r_1 : Option Nat) (r_2 : Option Nat) (r_3 : Option Nat) {H : JHp} (h :
  ∃ a1 : Nat, this = some a1 ∧
  jbool (1 : Int32) ∧ ∃ (a2 : Nat) (fs3 : List JVal) (v4 : JVal), this = some a2 ∧ H.1 a2 = some (true, jO 25 fs3) ∧ jn fs3 5 = some v4 ∧
  ∃ (a5 : Nat) (fs6 : List JVal) (v7 : JVal), this = some a5 ∧ (jup H a2 (jO 25 (jset fs3 5 (jI 1)))).1 a5 = some (true, jO 25 fs6) ∧ jn fs6 0 = some v7 ∧
  ∃ (a8 : Nat) (fs9 : List JVal) (v10 : JVal), this = some a8 ∧ (jup (jup H a2 (jO 25 (jset fs3 5 (jI 1)))) a5 (jO 25 (jset fs6 0 (jR r_1)))).1 a8 = some (true, jO 25 fs9) ∧ jn fs9 1 = some v10 ∧
  ∃ (a11 : Nat) (fs12 : List JVal) (v13 : JVal), this = some a11 ∧ (jup (jup (jup H a2 (jO 25 (jset fs3 5 (jI 1)))) a5 (jO 25 (jset fs6 0 (jR r_1)))) a8 (jO 25 (jset fs9 1 (jR r_2)))).1 a11 = some (true, jO 25 fs12) ∧ jn fs12 4 = some v13 ∧
  Rt (.inl none) (jup (jup (jup (jup H a2 (jO 25 (jset fs3 5 (jI 1)))) a5 (jO 25 (jset fs6 0 (jR r_1)))) a8 (jO 25 (jset fs9 1 (jR r_2)))) a11 (jO 25 (jset fs12 4 (jR r_3))))) :
  jwp (jprog G) 78 Rt 0 [some (jR this), some (jR r_1), some (jR r_2), some (jR r_3)] [] H :=
  junf_wp (jprog_nf G) (stop := jmem []) (pJ33_init G) 4000 _ _ _ _ h
/-- java/util/TreeMap addEntryToEmptyMap(Ljava/lang/Object;Ljava/lang/Object;)V @0 -/
theorem gJ6_addEntryToEmptyMap_0 (G : JG) {Rt : JRt} (this : Option Nat) (r_1 : Option Nat) (r_2 : Option Nat) {H : JHp} (h :
  ∃ (a1 : Nat) (fs2 : List JVal), this = some a1 ∧ job H a1 13 fs2 ∧ /- J6_compare -/ ∃ (x4 : Int32) (H3 : JHp), jok (jprog G) 77 [jR this, jR r_1, jR r_1] H (.inl (some (jI x4))) H3 ∧
  ∃ a5 : Nat, (some H3.2.1) = some a5 ∧ /- J33_init -/ ∃ H6 : JHp, jok (jprog G) 78 [jR (some H3.2.1), jR r_1, jR r_2, jR none] (jnew H3 (jO 25 [jR none, jR none, jR none, jR none, jR none, jI 0]) 6) (.inl none) H6 ∧
  ∃ (a7 : Nat) (fs8 : List JVal) (v9 : JVal), this = some a7 ∧ H6.1 a7 = some (true, jO 13 fs8) ∧ jn fs8 3 = some v9 ∧
  ∃ (a10 : Nat) (fs11 : List JVal) (v12 : JVal), this = some a10 ∧ (jup H6 a7 (jO 13 (jset fs8 3 (jR (some H3.2.1))))).1 a10 = some (true, jO 13 fs11) ∧ jn fs11 4 = some v12 ∧
  ∃ (a13 : Nat) (fs14 : List JVal) (x15 : Int32), this = some a13 ∧ job (jup (jup H6 a7 (jO 13 (jset fs8 3 (jR (some H3.2.1))))) a10 (jO 13 (jset fs11 4 (jI 1)))) a13 13 fs14 ∧ jn fs14 5 = some (jI x15) ∧
  ∃ (a16 : Nat) (fs17 : List JVal) (v18 : JVal), this = some a16 ∧ (jup (jup H6 a7 (jO 13 (jset fs8 3 (jR (some H3.2.1))))) a10 (jO 13 (jset fs11 4 (jI 1)))).1 a16 = some (true, jO 13 fs17) ∧ jn fs17 5 = some v18 ∧
  Rt (.inl none) (jup (jup (jup H6 a7 (jO 13 (jset fs8 3 (jR (some H3.2.1))))) a10 (jO 13 (jset fs11 4 (jI 1)))) a16 (jO 13 (jset fs17 5 (jI (x15 + (1 : Int32))))))) :
  jwp (jprog G) 79 Rt 0 [some (jR this), some (jR r_1), some (jR r_2)] [] H :=
  junf_wp (jprog_nf G) (stop := jmem []) (pJ6_addEntryToEmptyMap G) 4000 _ _ _ _ h
/-- java/util/TreeMap parentOf(Ljava/util/TreeMap$Entry;)Ljava/util/TreeMap$Entry; @0 -/
theorem gJ6_parentOf_0 (G : JG) {Rt : JRt} (r_0 : Option Nat) {H : JHp} (h :
  ((¬ r_0 = none) →
    ∃ (a1 : Nat) (fs2 : List JVal) (r3 : Option Nat), r_0 = some a1 ∧ job H a1 25 fs2 ∧ jn fs2 4 = some (jR r3) ∧
    Rt (.inl (some (jR r3))) H) ∧
  (¬ (¬ r_0 = none) →
    Rt (.inl (some (jR none))) H)) :
  jwp (jprog G) 80 Rt 0 [some (jR r_0)] [] H :=
  junf_wp (jprog_nf G) (stop := jmem []) (pJ6_parentOf G) 4000 _ _ _ _ h
/-- java/util/TreeMap leftOf(Ljava/util/TreeMap$Entry;)Ljava/util/TreeMap$Entry; @0 -/
theorem gJ6_leftOf_0 (G : JG) {Rt : JRt} (r_0 : Option Nat) {H : JHp} (h :
  ((¬ r_0 = none) →
    ∃ (a1 : Nat) (fs2 : List JVal) (r3 : Option Nat), r_0 = some a1 ∧ job H a1 25 fs2 ∧ jn fs2 2 = some (jR r3) ∧
    Rt (.inl (some (jR r3))) H) ∧
  (¬ (¬ r_0 = none) →
    Rt (.inl (some (jR none))) H)) :
  jwp (jprog G) 81 Rt 0 [some (jR r_0)] [] H :=
  junf_wp (jprog_nf G) (stop := jmem []) (pJ6_leftOf G) 4000 _ _ _ _ h
/-- java/util/TreeMap rightOf(Ljava/util/TreeMap$Entry;)Ljava/util/TreeMap$Entry; @0 -/
theorem gJ6_rightOf_0 (G : JG) {Rt : JRt} (r_0 : Option Nat) {H : JHp} (h :
  ((¬ r_0 = none) →
    ∃ (a1 : Nat) (fs2 : List JVal) (r3 : Option Nat), r_0 = some a1 ∧ job H a1 25 fs2 ∧ jn fs2 3 = some (jR r3) ∧
    Rt (.inl (some (jR r3))) H) ∧
  (¬ (¬ r_0 = none) →
    Rt (.inl (some (jR none))) H)) :
  jwp (jprog G) 82 Rt 0 [some (jR r_0)] [] H :=
  junf_wp (jprog_nf G) (stop := jmem []) (pJ6_rightOf G) 4000 _ _ _ _ h
/-- java/util/TreeMap colorOf(Ljava/util/TreeMap$Entry;)Z @0 -/
theorem gJ6_colorOf_0 (G : JG) {Rt : JRt} (r_0 : Option Nat) {H : JHp} (h :
  ((¬ r_0 = none) →
    ∃ (a1 : Nat) (fs2 : List JVal) (x3 : Int32), r_0 = some a1 ∧ job H a1 25 fs2 ∧ jn fs2 5 = some (jI x3) ∧
    jbool x3 ∧ Rt (.inl (some (jI x3))) H) ∧
  (¬ (¬ r_0 = none) →
    jbool (1 : Int32) ∧ Rt (.inl (some (jI 1))) H)) :
  jwp (jprog G) 83 Rt 0 [some (jR r_0)] [] H :=
  junf_wp (jprog_nf G) (stop := jmem []) (pJ6_colorOf G) 4000 _ _ _ _ h
/-- java/util/TreeMap setColor(Ljava/util/TreeMap$Entry;Z)V @0 -/
theorem gJ6_setColor_0 (G : JG) {Rt : JRt} (r_0 : Option Nat) (i_1 : Int32) {H : JHp} (h :
  (r_0 = none →
    Rt (.inl none) H) ∧
  (¬ r_0 = none →
    jbool i_1 ∧ ∃ (a1 : Nat) (fs2 : List JVal) (v3 : JVal), r_0 = some a1 ∧ H.1 a1 = some (true, jO 25 fs2) ∧ jn fs2 5 = some v3 ∧
    Rt (.inl none) (jup H a1 (jO 25 (jset fs2 5 (jI i_1)))))) :
  jwp (jprog G) 84 Rt 0 [some (jR r_0), some (jI i_1)] [] H :=
  junf_wp (jprog_nf G) (stop := jmem []) (pJ6_setColor G) 4000 _ _ _ _ h
/-- java/util/TreeMap rotateLeft(Ljava/util/TreeMap$Entry;)V @0 -/
theorem gJ6_rotateLeft_0 (G : JG) {Rt : JRt} (this : Option Nat) (r_1 : Option Nat) {H : JHp} (h :
  (r_1 = none →
    Rt (.inl none) H) ∧
  (¬ r_1 = none →
    ∃ (a1 : Nat) (fs2 : List JVal) (r3 : Option Nat), r_1 = some a1 ∧ job H a1 25 fs2 ∧ jn fs2 3 = some (jR r3) ∧
    ∃ (a4 : Nat) (fs5 : List JVal) (r6 : Option Nat), r3 = some a4 ∧ job H a4 25 fs5 ∧ jn fs5 2 = some (jR r6) ∧
    ∃ (a7 : Nat) (fs8 : List JVal) (v9 : JVal), r_1 = some a7 ∧ H.1 a7 = some (true, jO 25 fs8) ∧ jn fs8 3 = some v9 ∧
    ∃ (a10 : Nat) (fs11 : List JVal) (r12 : Option Nat), r3 = some a10 ∧ job (jup H a7 (jO 25 (jset fs8 3 (jR r6)))) a10 25 fs11 ∧ jn fs11 2 = some (jR r12) ∧
    (r12 = none →
      jwp (jprog G) 85 Rt 32 [some (jR this), some (jR r_1), some (jR r3)] [] (jup H a7 (jO 25 (jset fs8 3 (jR r6))))) ∧
    (¬ r12 = none →
      ∃ (a13 : Nat) (fs14 : List JVal) (r15 : Option Nat), r3 = some a13 ∧ job (jup H a7 (jO 25 (jset fs8 3 (jR r6)))) a13 25 fs14 ∧ jn fs14 2 = some (jR r15) ∧
      ∃ (a16 : Nat) (fs17 : List JVal) (v18 : JVal), r15 = some a16 ∧ (jup H a7 (jO 25 (jset fs8 3 (jR r6)))).1 a16 = some (true, jO 25 fs17) ∧ jn fs17 4 = some v18 ∧
      jwp (jprog G) 85 Rt 32 [some (jR this), some (jR r_1), some (jR r3)] [] (jup (jup H a7 (jO 25 (jset fs8 3 (jR r6)))) a16 (jO 25 (jset fs17 4 (jR r_1))))))) :
  jwp (jprog G) 85 Rt 0 [some (jR this), some (jR r_1), none] [] H :=
  junf_wp (jprog_nf G) (stop := jmem [32]) (pJ6_rotateLeft G) 4000 _ _ _ _ h
/-- java/util/TreeMap rotateLeft(Ljava/util/TreeMap$Entry;)V @32 -/
theorem gJ6_rotateLeft_32 (G : JG) {Rt : JRt} (r_0 : Option Nat) (r_1 : Option Nat) (r_2 : Option Nat) {H : JHp} (h :
  ∃ (a1 : Nat) (fs2 : List JVal) (r3 : Option Nat), r_1 = some a1 ∧ job H a1 25 fs2 ∧ jn fs2 4 = some (jR r3) ∧
  ∃ (a4 : Nat) (fs5 : List JVal) (v6 : JVal), r_2 = some a4 ∧ H.1 a4 = some (true, jO 25 fs5) ∧ jn fs5 4 = some v6 ∧
  ∃ (a7 : Nat) (fs8 : List JVal) (r9 : Option Nat), r_1 = some a7 ∧ job (jup H a4 (jO 25 (jset fs5 4 (jR r3)))) a7 25 fs8 ∧ jn fs8 4 = some (jR r9) ∧
  ((¬ r9 = none) →
    ∃ (a10 : Nat) (fs11 : List JVal) (r12 : Option Nat), r_1 = some a10 ∧ job (jup H a4 (jO 25 (jset fs5 4 (jR r3)))) a10 25 fs11 ∧ jn fs11 4 = some (jR r12) ∧
    ∃ (a13 : Nat) (fs14 : List JVal) (r15 : Option Nat), r12 = some a13 ∧ job (jup H a4 (jO 25 (jset fs5 4 (jR r3)))) a13 25 fs14 ∧ jn fs14 2 = some (jR r15) ∧
    ((¬ r15 = r_1) →
      ∃ (a16 : Nat) (fs17 : List JVal) (r18 : Option Nat), r_1 = some a16 ∧ job (jup H a4 (jO 25 (jset fs5 4 (jR r3)))) a16 25 fs17 ∧ jn fs17 4 = some (jR r18) ∧
      ∃ (a19 : Nat) (fs20 : List JVal) (v21 : JVal), r18 = some a19 ∧ (jup H a4 (jO 25 (jset fs5 4 (jR r3)))).1 a19 = some (true, jO 25 fs20) ∧ jn fs20 3 = some v21 ∧
      ∃ (a22 : Nat) (fs23 : List JVal) (v24 : JVal), r_2 = some a22 ∧ (jup (jup H a4 (jO 25 (jset fs5 4 (jR r3)))) a19 (jO 25 (jset fs20 3 (jR r_2)))).1 a22 = some (true, jO 25 fs23) ∧ jn fs23 2 = some v24 ∧
      ∃ (a25 : Nat) (fs26 : List JVal) (v27 : JVal), r_1 = some a25 ∧ (jup (jup (jup H a4 (jO 25 (jset fs5 4 (jR r3)))) a19 (jO 25 (jset fs20 3 (jR r_2)))) a22 (jO 25 (jset fs23 2 (jR r_1)))).1 a25 = some (true, jO 25 fs26) ∧ jn fs26 4 = some v27 ∧
      Rt (.inl none) (jup (jup (jup (jup H a4 (jO 25 (jset fs5 4 (jR r3)))) a19 (jO 25 (jset fs20 3 (jR r_2)))) a22 (jO 25 (jset fs23 2 (jR r_1)))) a25 (jO 25 (jset fs26 4 (jR r_2))))) ∧
    (¬ (¬ r15 = r_1) →
      ∃ (a28 : Nat) (fs29 : List JVal) (r30 : Option Nat), r_1 = some a28 ∧ job (jup H a4 (jO 25 (jset fs5 4 (jR r3)))) a28 25 fs29 ∧ jn fs29 4 = some (jR r30) ∧
      ∃ (a31 : Nat) (fs32 : List JVal) (v33 : JVal), r30 = some a31 ∧ (jup H a4 (jO 25 (jset fs5 4 (jR r3)))).1 a31 = some (true, jO 25 fs32) ∧ jn fs32 2 = some v33 ∧
      ∃ (a34 : Nat) (fs35 : List JVal) (v36 : JVal), r_2 = some a34 ∧ (jup (jup H a4 (jO 25 (jset fs5 4 (jR r3)))) a31 (jO 25 (jset fs32 2 (jR r_2)))).1 a34 = some (true, jO 25 fs35) ∧ jn fs35 2 = some v36 ∧
      ∃ (a37 : Nat) (fs38 : List JVal) (v39 : JVal), r_1 = some a37 ∧ (jup (jup (jup H a4 (jO 25 (jset fs5 4 (jR r3)))) a31 (jO 25 (jset fs32 2 (jR r_2)))) a34 (jO 25 (jset fs35 2 (jR r_1)))).1 a37 = some (true, jO 25 fs38) ∧ jn fs38 4 = some v39 ∧
      Rt (.inl none) (jup (jup (jup (jup H a4 (jO 25 (jset fs5 4 (jR r3)))) a31 (jO 25 (jset fs32 2 (jR r_2)))) a34 (jO 25 (jset fs35 2 (jR r_1)))) a37 (jO 25 (jset fs38 4 (jR r_2)))))) ∧
  (¬ (¬ r9 = none) →
    ∃ (a40 : Nat) (fs41 : List JVal) (v42 : JVal), r_0 = some a40 ∧ (jup H a4 (jO 25 (jset fs5 4 (jR r3)))).1 a40 = some (true, jO 13 fs41) ∧ jn fs41 3 = some v42 ∧
    ∃ (a43 : Nat) (fs44 : List JVal) (v45 : JVal), r_2 = some a43 ∧ (jup (jup H a4 (jO 25 (jset fs5 4 (jR r3)))) a40 (jO 13 (jset fs41 3 (jR r_2)))).1 a43 = some (true, jO 25 fs44) ∧ jn fs44 2 = some v45 ∧
    ∃ (a46 : Nat) (fs47 : List JVal) (v48 : JVal), r_1 = some a46 ∧ (jup (jup (jup H a4 (jO 25 (jset fs5 4 (jR r3)))) a40 (jO 13 (jset fs41 3 (jR r_2)))) a43 (jO 25 (jset fs44 2 (jR r_1)))).1 a46 = some (true, jO 25 fs47) ∧ jn fs47 4 = some v48 ∧
    Rt (.inl none) (jup (jup (jup (jup H a4 (jO 25 (jset fs5 4 (jR r3)))) a40 (jO 13 (jset fs41 3 (jR r_2)))) a43 (jO 25 (jset fs44 2 (jR r_1)))) a46 (jO 25 (jset fs47 4 (jR r_2)))))) :
  jwp (jprog G) 85 Rt 32 [some (jR r_0), some (jR r_1), some (jR r_2)] [] H :=
  junf_wp (jprog_nf G) (stop := jmem [32]) (pJ6_rotateLeft G) 4000 _ _ _ _ h
/-- java/util/TreeMap rotateRight(Ljava/util/TreeMap$Entry;)V @0 -/
theorem gJ6_rotateRight_0 (G : JG) {Rt : JRt} (this : Option Nat) (r_1 : Option Nat) {H : JHp} (h :
  (r_1 = none →
    Rt (.inl none) H) ∧
  (¬ r_1 = none →
    ∃ (a1 : Nat) (fs2 : List JVal) (r3 : Option Nat), r_1 = some a1 ∧ job H a1 25 fs2 ∧ jn fs2 2 = some (jR r3) ∧
    ∃ (a4 : Nat) (fs5 : List JVal) (r6 : Option Nat), r3 = some a4 ∧ job H a4 25 fs5 ∧ jn fs5 3 = some (jR r6) ∧
    ∃ (a7 : Nat) (fs8 : List JVal) (v9 : JVal), r_1 = some a7 ∧ H.1 a7 = some (true, jO 25 fs8) ∧ jn fs8 2 = some v9 ∧
    ∃ (a10 : Nat) (fs11 : List JVal) (r12 : Option Nat), r3 = some a10 ∧ job (jup H a7 (jO 25 (jset fs8 2 (jR r6)))) a10 25 fs11 ∧ jn fs11 3 = some (jR r12) ∧
    (r12 = none →
      jwp (jprog G) 86 Rt 32 [some (jR this), some (jR r_1), some (jR r3)] [] (jup H a7 (jO 25 (jset fs8 2 (jR r6))))) ∧
    (¬ r12 = none →
      ∃ (a13 : Nat) (fs14 : List JVal) (r15 : Option Nat), r3 = some a13 ∧ job (jup H a7 (jO 25 (jset fs8 2 (jR r6)))) a13 25 fs14 ∧ jn fs14 3 = some (jR r15) ∧
      ∃ (a16 : Nat) (fs17 : List JVal) (v18 : JVal), r15 = some a16 ∧ (jup H a7 (jO 25 (jset fs8 2 (jR r6)))).1 a16 = some (true, jO 25 fs17) ∧ jn fs17 4 = some v18 ∧
      jwp (jprog G) 86 Rt 32 [some (jR this), some (jR r_1), some (jR r3)] [] (jup (jup H a7 (jO 25 (jset fs8 2 (jR r6)))) a16 (jO 25 (jset fs17 4 (jR r_1))))))) :
  jwp (jprog G) 86 Rt 0 [some (jR this), some (jR r_1), none] [] H :=
  junf_wp (jprog_nf G) (stop := jmem [32]) (pJ6_rotateRight G) 4000 _ _ _ _ h
/-- java/util/TreeMap rotateRight(Ljava/util/TreeMap$Entry;)V @32 -/
theorem gJ6_rotateRight_32 (G : JG) {Rt : JRt} (r_0 : Option Nat) (r_1 : Option Nat) (r_2 : Option Nat) {H : JHp} (h :
  ∃ (a1 : Nat) (fs2 : List JVal) (r3 : Option Nat), r_1 = some a1 ∧ job H a1 25 fs2 ∧ jn fs2 4 = some (jR r3) ∧
  ∃ (a4 : Nat) (fs5 : List JVal) (v6 : JVal), r_2 = some a4 ∧ H.1 a4 = some (true, jO 25 fs5) ∧ jn fs5 4 = some v6 ∧
  ∃ (a7 : Nat) (fs8 : List JVal) (r9 : Option Nat), r_1 = some a7 ∧ job (jup H a4 (jO 25 (jset fs5 4 (jR r3)))) a7 25 fs8 ∧ jn fs8 4 = some (jR r9) ∧
  ((¬ r9 = none) →
    ∃ (a10 : Nat) (fs11 : List JVal) (r12 : Option Nat), r_1 = some a10 ∧ job (jup H a4 (jO 25 (jset fs5 4 (jR r3)))) a10 25 fs11 ∧ jn fs11 4 = some (jR r12) ∧
    ∃ (a13 : Nat) (fs14 : List JVal) (r15 : Option Nat), r12 = some a13 ∧ job (jup H a4 (jO 25 (jset fs5 4 (jR r3)))) a13 25 fs14 ∧ jn fs14 3 = some (jR r15) ∧
    ((¬ r15 = r_1) →
      ∃ (a16 : Nat) (fs17 : List JVal) (r18 : Option Nat), r_1 = some a16 ∧ job (jup H a4 (jO 25 (jset fs5 4 (jR r3)))) a16 25 fs17 ∧ jn fs17 4 = some (jR r18) ∧
      ∃ (a19 : Nat) (fs20 : List JVal) (v21 : JVal), r18 = some a19 ∧ (jup H a4 (jO 25 (jset fs5 4 (jR r3)))).1 a19 = some (true, jO 25 fs20) ∧ jn fs20 2 = some v21 ∧
      ∃ (a22 : Nat) (fs23 : List JVal) (v24 : JVal), r_2 = some a22 ∧ (jup (jup H a4 (jO 25 (jset fs5 4 (jR r3)))) a19 (jO 25 (jset fs20 2 (jR r_2)))).1 a22 = some (true, jO 25 fs23) ∧ jn fs23 3 = some v24 ∧
      ∃ (a25 : Nat) (fs26 : List JVal) (v27 : JVal), r_1 = some a25 ∧ (jup (jup (jup H a4 (jO 25 (jset fs5 4 (jR r3)))) a19 (jO 25 (jset fs20 2 (jR r_2)))) a22 (jO 25 (jset fs23 3 (jR r_1)))).1 a25 = some (true, jO 25 fs26) ∧ jn fs26 4 = some v27 ∧
      Rt (.inl none) (jup (jup (jup (jup H a4 (jO 25 (jset fs5 4 (jR r3)))) a19 (jO 25 (jset fs20 2 (jR r_2)))) a22 (jO 25 (jset fs23 3 (jR r_1)))) a25 (jO 25 (jset fs26 4 (jR r_2))))) ∧
    (¬ (¬ r15 = r_1) →
      ∃ (a28 : Nat) (fs29 : List JVal) (r30 : Option Nat), r_1 = some a28 ∧ job (jup H a4 (jO 25 (jset fs5 4 (jR r3)))) a28 25 fs29 ∧ jn fs29 4 = some (jR r30) ∧
      ∃ (a31 : Nat) (fs32 : List JVal) (v33 : JVal), r30 = some a31 ∧ (jup H a4 (jO 25 (jset fs5 4 (jR r3)))).1 a31 = some (true, jO 25 fs32) ∧ jn fs32 3 = some v33 ∧
      ∃ (a34 : Nat) (fs35 : List JVal) (v36 : JVal), r_2 = some a34 ∧ (jup (jup H a4 (jO 25 (jset fs5 4 (jR r3)))) a31 (jO 25 (jset fs32 3 (jR r_2)))).1 a34 = some (true, jO 25 fs35) ∧ jn fs35 3 = some v36 ∧
      ∃ (a37 : Nat) (fs38 : List JVal) (v39 : JVal), r_1 = some a37 ∧ (jup (jup (jup H a4 (jO 25 (jset fs5 4 (jR r3)))) a31 (jO 25 (jset fs32 3 (jR r_2)))) a34 (jO 25 (jset fs35 3 (jR r_1)))).1 a37 = some (true, jO 25 fs38) ∧ jn fs38 4 = some v39 ∧
      Rt (.inl none) (jup (jup (jup (jup H a4 (jO 25 (jset fs5 4 (jR r3)))) a31 (jO 25 (jset fs32 3 (jR r_2)))) a34 (jO 25 (jset fs35 3 (jR r_1)))) a37 (jO 25 (jset fs38 4 (jR r_2)))))) ∧
  (¬ (¬ r9 = none) →
    ∃ (a40 : Nat) (fs41 : List JVal) (v42 : JVal), r_0 = some a40 ∧ (jup H a4 (jO 25 (jset fs5 4 (jR r3)))).1 a40 = some (true, jO 13 fs41) ∧ jn fs41 3 = some v42 ∧
    ∃ (a43 : Nat) (fs44 : List JVal) (v45 : JVal), r_2 = some a43 ∧ (jup (jup H a4 (jO 25 (jset fs5 4 (jR r3)))) a40 (jO 13 (jset fs41 3 (jR r_2)))).1 a43 = some (true, jO 25 fs44) ∧ jn fs44 3 = some v45 ∧
    ∃ (a46 : Nat) (fs47 : List JVal) (v48 : JVal), r_1 = some a46 ∧ (jup (jup (jup H a4 (jO 25 (jset fs5 4 (jR r3)))) a40 (jO 13 (jset fs41 3 (jR r_2)))) a43 (jO 25 (jset fs44 3 (jR r_1)))).1 a46 = some (true, jO 25 fs47) ∧ jn fs47 4 = some v48 ∧
    Rt (.inl none) (jup (jup (jup (jup H a4 (jO 25 (jset fs5 4 (jR r3)))) a40 (jO 13 (jset fs41 3 (jR r_2)))) a43 (jO 25 (jset fs44 3 (jR r_1)))) a46 (jO 25 (jset fs47 4 (jR r_2)))))) :
  jwp (jprog G) 86 Rt 32 [some (jR r_0), some (jR r_1), some (jR r_2)] [] H :=
  junf_wp (jprog_nf G) (stop := jmem [32]) (pJ6_rotateRight G) 4000 _ _ _ _ h
/-- java/util/TreeMap fixAfterInsertion(Ljava/util/TreeMap$Entry;)V @0 -/
theorem gJ6_fixAfterInsertion_0 (G : JG) {Rt : JRt} (this : Option Nat) (r_1 : Option Nat) {H : JHp} (h :
  jbool (0 : Int32) ∧ ∃ (a1 : Nat) (fs2 : List JVal) (v3 : JVal), r_1 = some a1 ∧ H.1 a1 = some (true, jO 25 fs2) ∧ jn fs2 5 = some v3 ∧
  jwp (jprog G) 87 Rt 5 [some (jR this), some (jR r_1), none] [] (jup H a1 (jO 25 (jset fs2 5 (jI 0))))) :
  jwp (jprog G) 87 Rt 0 [some (jR this), some (jR r_1), none] [] H :=
  junf_wp (jprog_nf G) (stop := jmem [5, 118, 225]) (pJ6_fixAfterInsertion G) 4000 _ _ _ _ h
/-- java/util/TreeMap fixAfterInsertion(Ljava/util/TreeMap$Entry;)V @5 -/
theorem gJ6_fixAfterInsertion_5 (G : JG) {Rt : JRt} (r_0 : Option Nat) (r_1 : Option Nat) (q_2 : Option JVal) {H : JHp} (h :
  (r_1 = none →
    ∃ (a1 : Nat) (fs2 : List JVal) (r3 : Option Nat), r_0 = some a1 ∧ job H a1 13 fs2 ∧ jn fs2 3 = some (jR r3) ∧
    jbool (1 : Int32) ∧ ∃ (a4 : Nat) (fs5 : List JVal) (v6 : JVal), r3 = some a4 ∧ H.1 a4 = some (true, jO 25 fs5) ∧ jn fs5 5 = some v6 ∧
    Rt (.inl none) (jup H a4 (jO 25 (jset fs5 5 (jI 1))))) ∧
  (¬ r_1 = none →
    ∃ (a7 : Nat) (fs8 : List JVal) (r9 : Option Nat), r_0 = some a7 ∧ job H a7 13 fs8 ∧ jn fs8 3 = some (jR r9) ∧
    (r_1 = r9 →
      ∃ (a10 : Nat) (fs11 : List JVal) (r12 : Option Nat), r_0 = some a10 ∧ job H a10 13 fs11 ∧ jn fs11 3 = some (jR r12) ∧
      jbool (1 : Int32) ∧ ∃ (a13 : Nat) (fs14 : List JVal) (v15 : JVal), r12 = some a13 ∧ H.1 a13 = some (true, jO 25 fs14) ∧ jn fs14 5 = some v15 ∧
      Rt (.inl none) (jup H a13 (jO 25 (jset fs14 5 (jI 1))))) ∧
    (¬ r_1 = r9 →
      ∃ (a16 : Nat) (fs17 : List JVal) (r18 : Option Nat), r_1 = some a16 ∧ job H a16 25 fs17 ∧ jn fs17 4 = some (jR r18) ∧
      ∃ (a19 : Nat) (fs20 : List JVal) (x21 : Int32), r18 = some a19 ∧ job H a19 25 fs20 ∧ jn fs20 5 = some (jI x21) ∧
      (¬ x21 = 0 →
        ∃ (a22 : Nat) (fs23 : List JVal) (r24 : Option Nat), r_0 = some a22 ∧ job H a22 13 fs23 ∧ jn fs23 3 = some (jR r24) ∧
        jbool (1 : Int32) ∧ ∃ (a25 : Nat) (fs26 : List JVal) (v27 : JVal), r24 = some a25 ∧ H.1 a25 = some (true, jO 25 fs26) ∧ jn fs26 5 = some v27 ∧
        Rt (.inl none) (jup H a25 (jO 25 (jset fs26 5 (jI 1))))) ∧
      (¬ ¬ x21 = 0 →
        /- J6_parentOf -/ ∃ (r29 : Option Nat) (H28 : JHp), jok (jprog G) 80 [jR r_1] H (.inl (some (jR r29))) H28 ∧
        /- J6_parentOf -/ ∃ (r31 : Option Nat) (H30 : JHp), jok (jprog G) 80 [jR r_1] H28 (.inl (some (jR r31))) H30 ∧
        /- J6_parentOf -/ ∃ (r33 : Option Nat) (H32 : JHp), jok (jprog G) 80 [jR r31] H30 (.inl (some (jR r33))) H32 ∧
        /- J6_leftOf -/ ∃ (r35 : Option Nat) (H34 : JHp), jok (jprog G) 81 [jR r33] H32 (.inl (some (jR r35))) H34 ∧
        ((¬ r29 = r35) →
          /- J6_parentOf -/ ∃ (r37 : Option Nat) (H36 : JHp), jok (jprog G) 80 [jR r_1] H34 (.inl (some (jR r37))) H36 ∧
          /- J6_parentOf -/ ∃ (r39 : Option Nat) (H38 : JHp), jok (jprog G) 80 [jR r37] H36 (.inl (some (jR r39))) H38 ∧
          /- J6_leftOf -/ ∃ (r41 : Option Nat) (H40 : JHp), jok (jprog G) 81 [jR r39] H38 (.inl (some (jR r41))) H40 ∧
          /- J6_colorOf -/ ∃ (x43 : Int32) (H42 : JHp), jok (jprog G) 83 [jR r41] H40 (.inl (some (jI x43))) H42 ∧
          (¬ x43 = 0 →
            /- J6_parentOf -/ ∃ (r45 : Option Nat) (H44 : JHp), jok (jprog G) 80 [jR r_1] H42 (.inl (some (jR r45))) H44 ∧
            /- J6_leftOf -/ ∃ (r47 : Option Nat) (H46 : JHp), jok (jprog G) 81 [jR r45] H44 (.inl (some (jR r47))) H46 ∧
            ((¬ r_1 = r47) →
              jwp (jprog G) 87 Rt 225 [some (jR r_0), some (jR r_1), some (jR r41)] [] H46) ∧
            (¬ (¬ r_1 = r47) →
              /- J6_parentOf -/ ∃ (r49 : Option Nat) (H48 : JHp), jok (jprog G) 80 [jR r_1] H46 (.inl (some (jR r49))) H48 ∧
              ∃ (a50 : Nat) (fs51 : List JVal), r_0 = some a50 ∧ job H48 a50 13 fs51 ∧ /- J6_rotateRight -/ ∃ H52 : JHp, jok (jprog G) 86 [jR r_0, jR r49] H48 (.inl none) H52 ∧
              jwp (jprog G) 87 Rt 225 [some (jR r_0), some (jR r49), some (jR r41)] [] H52)) ∧
          (¬ ¬ x43 = 0 →
            /- J6_parentOf -/ ∃ (r54 : Option Nat) (H53 : JHp), jok (jprog G) 80 [jR r_1] H42 (.inl (some (jR r54))) H53 ∧
            /- J6_setColor -/ ∃ H55 : JHp, jok (jprog G) 84 [jR r54, jI 1] H53 (.inl none) H55 ∧
            /- J6_setColor -/ ∃ H56 : JHp, jok (jprog G) 84 [jR r41, jI 1] H55 (.inl none) H56 ∧
            /- J6_parentOf -/ ∃ (r58 : Option Nat) (H57 : JHp), jok (jprog G) 80 [jR r_1] H56 (.inl (some (jR r58))) H57 ∧
            /- J6_parentOf -/ ∃ (r60 : Option Nat) (H59 : JHp), jok (jprog G) 80 [jR r58] H57 (.inl (some (jR r60))) H59 ∧
            /- J6_setColor -/ ∃ H61 : JHp, jok (jprog G) 84 [jR r60, jI 0] H59 (.inl none) H61 ∧
            /- J6_parentOf -/ ∃ (r63 : Option Nat) (H62 : JHp), jok (jprog G) 80 [jR r_1] H61 (.inl (some (jR r63))) H62 ∧
            /- J6_parentOf -/ ∃ (r65 : Option Nat) (H64 : JHp), jok (jprog G) 80 [jR r63] H62 (.inl (some (jR r65))) H64 ∧
            jwp (jprog G) 87 Rt 5 [some (jR r_0), some (jR r65), some (jR r41)] [] H64)) ∧
        (¬ (¬ r29 = r35) →
          /- J6_parentOf -/ ∃ (r67 : Option Nat) (H66 : JHp), jok (jprog G) 80 [jR r_1] H34 (.inl (some (jR r67))) H66 ∧
          /- J6_parentOf -/ ∃ (r69 : Option Nat) (H68 : JHp), jok (jprog G) 80 [jR r67] H66 (.inl (some (jR r69))) H68 ∧
          /- J6_rightOf -/ ∃ (r71 : Option Nat) (H70 : JHp), jok (jprog G) 82 [jR r69] H68 (.inl (some (jR r71))) H70 ∧
          /- J6_colorOf -/ ∃ (x73 : Int32) (H72 : JHp), jok (jprog G) 83 [jR r71] H70 (.inl (some (jI x73))) H72 ∧
          (¬ x73 = 0 →
            /- J6_parentOf -/ ∃ (r75 : Option Nat) (H74 : JHp), jok (jprog G) 80 [jR r_1] H72 (.inl (some (jR r75))) H74 ∧
            /- J6_rightOf -/ ∃ (r77 : Option Nat) (H76 : JHp), jok (jprog G) 82 [jR r75] H74 (.inl (some (jR r77))) H76 ∧
            ((¬ r_1 = r77) →
              jwp (jprog G) 87 Rt 118 [some (jR r_0), some (jR r_1), some (jR r71)] [] H76) ∧
            (¬ (¬ r_1 = r77) →
              /- J6_parentOf -/ ∃ (r79 : Option Nat) (H78 : JHp), jok (jprog G) 80 [jR r_1] H76 (.inl (some (jR r79))) H78 ∧
              ∃ (a80 : Nat) (fs81 : List JVal), r_0 = some a80 ∧ job H78 a80 13 fs81 ∧ /- J6_rotateLeft -/ ∃ H82 : JHp, jok (jprog G) 85 [jR r_0, jR r79] H78 (.inl none) H82 ∧
              jwp (jprog G) 87 Rt 118 [some (jR r_0), some (jR r79), some (jR r71)] [] H82)) ∧
          (¬ ¬ x73 = 0 →
            /- J6_parentOf -/ ∃ (r84 : Option Nat) (H83 : JHp), jok (jprog G) 80 [jR r_1] H72 (.inl (some (jR r84))) H83 ∧
            /- J6_setColor -/ ∃ H85 : JHp, jok (jprog G) 84 [jR r84, jI 1] H83 (.inl none) H85 ∧
            /- J6_setColor -/ ∃ H86 : JHp, jok (jprog G) 84 [jR r71, jI 1] H85 (.inl none) H86 ∧
            /- J6_parentOf -/ ∃ (r88 : Option Nat) (H87 : JHp), jok (jprog G) 80 [jR r_1] H86 (.inl (some (jR r88))) H87 ∧
            /- J6_parentOf -/ ∃ (r90 : Option Nat) (H89 : JHp), jok (jprog G) 80 [jR r88] H87 (.inl (some (jR r90))) H89 ∧
            /- J6_setColor -/ ∃ H91 : JHp, jok (jprog G) 84 [jR r90, jI 0] H89 (.inl none) H91 ∧
            /- J6_parentOf -/ ∃ (r93 : Option Nat) (H92 : JHp), jok (jprog G) 80 [jR r_1] H91 (.inl (some (jR r93))) H92 ∧
            /- J6_parentOf -/ ∃ (r95 : Option Nat) (H94 : JHp), jok (jprog G) 80 [jR r93] H92 (.inl (some (jR r95))) H94 ∧
            jwp (jprog G) 87 Rt 5 [some (jR r_0), some (jR r95), some (jR r71)] [] H94)))))) :
  jwp (jprog G) 87 Rt 5 [some (jR r_0), some (jR r_1), q_2] [] H :=
  junf_wp (jprog_nf G) (stop := jmem [5, 118, 225]) (pJ6_fixAfterInsertion G) 4000 _ _ _ _ h
/-- java/util/TreeMap fixAfterInsertion(Ljava/util/TreeMap$Entry;)V @118 -/
theorem gJ6_fixAfterInsertion_118 (G : JG) {Rt : JRt} (r_0 : Option Nat) (r_1 : Option Nat) (q_2 : Option JVal) {H : JHp} (h :
  /- J6_parentOf -/ ∃ (r2 : Option Nat) (H1 : JHp), jok (jprog G) 80 [jR r_1] H (.inl (some (jR r2))) H1 ∧
  /- J6_setColor -/ ∃ H3 : JHp, jok (jprog G) 84 [jR r2, jI 1] H1 (.inl none) H3 ∧
  /- J6_parentOf -/ ∃ (r5 : Option Nat) (H4 : JHp), jok (jprog G) 80 [jR r_1] H3 (.inl (some (jR r5))) H4 ∧
  /- J6_parentOf -/ ∃ (r7 : Option Nat) (H6 : JHp), jok (jprog G) 80 [jR r5] H4 (.inl (some (jR r7))) H6 ∧
  /- J6_setColor -/ ∃ H8 : JHp, jok (jprog G) 84 [jR r7, jI 0] H6 (.inl none) H8 ∧
  /- J6_parentOf -/ ∃ (r10 : Option Nat) (H9 : JHp), jok (jprog G) 80 [jR r_1] H8 (.inl (some (jR r10))) H9 ∧
  /- J6_parentOf -/ ∃ (r12 : Option Nat) (H11 : JHp), jok (jprog G) 80 [jR r10] H9 (.inl (some (jR r12))) H11 ∧
  ∃ (a13 : Nat) (fs14 : List JVal), r_0 = some a13 ∧ job H11 a13 13 fs14 ∧ /- J6_rotateRight -/ ∃ H15 : JHp, jok (jprog G) 86 [jR r_0, jR r12] H11 (.inl none) H15 ∧
  jwp (jprog G) 87 Rt 5 [some (jR r_0), some (jR r_1), q_2] [] H15) :
  jwp (jprog G) 87 Rt 118 [some (jR r_0), some (jR r_1), q_2] [] H :=
  junf_wp (jprog_nf G) (stop := jmem [5, 118, 225]) (pJ6_fixAfterInsertion G) 4000 _ _ _ _ h
/-- java/util/TreeMap fixAfterInsertion(Ljava/util/TreeMap$Entry;)V @225 -/
theorem gJ6_fixAfterInsertion_225 (G : JG) {Rt : JRt} (r_0 : Option Nat) (r_1 : Option Nat) (q_2 : Option JVal) {H : JHp} (h :
  /- J6_parentOf -/ ∃ (r2 : Option Nat) (H1 : JHp), jok (jprog G) 80 [jR r_1] H (.inl (some (jR r2))) H1 ∧
  /- J6_setColor -/ ∃ H3 : JHp, jok (jprog G) 84 [jR r2, jI 1] H1 (.inl none) H3 ∧
  /- J6_parentOf -/ ∃ (r5 : Option Nat) (H4 : JHp), jok (jprog G) 80 [jR r_1] H3 (.inl (some (jR r5))) H4 ∧
  /- J6_parentOf -/ ∃ (r7 : Option Nat) (H6 : JHp), jok (jprog G) 80 [jR r5] H4 (.inl (some (jR r7))) H6 ∧
  /- J6_setColor -/ ∃ H8 : JHp, jok (jprog G) 84 [jR r7, jI 0] H6 (.inl none) H8 ∧
  /- J6_parentOf -/ ∃ (r10 : Option Nat) (H9 : JHp), jok (jprog G) 80 [jR r_1] H8 (.inl (some (jR r10))) H9 ∧
  /- J6_parentOf -/ ∃ (r12 : Option Nat) (H11 : JHp), jok (jprog G) 80 [jR r10] H9 (.inl (some (jR r12))) H11 ∧
  ∃ (a13 : Nat) (fs14 : List JVal), r_0 = some a13 ∧ job H11 a13 13 fs14 ∧ /- J6_rotateLeft -/ ∃ H15 : JHp, jok (jprog G) 85 [jR r_0, jR r12] H11 (.inl none) H15 ∧
  jwp (jprog G) 87 Rt 5 [some (jR r_0), some (jR r_1), q_2] [] H15) :
  jwp (jprog G) 87 Rt 225 [some (jR r_0), some (jR r_1), q_2] [] H :=
  junf_wp (jprog_nf G) (stop := jmem [5, 118, 225]) (pJ6_fixAfterInsertion G) 4000 _ _ _ _ h
/-- java/util/TreeMap addEntry(Ljava/lang/Object;Ljava/lang/Object;Ljava/util/TreeMap$Entry;Z)V @0 -/
theorem gJ6_addEntry_0 (G : JG) {Rt : JRt} (this : Option Nat) (r_1 : Option Nat) (r_2 : Option Nat) (r_3 : Option Nat) (i_4 : Int32) {H : JHp} (h :
  ∃ a1 : Nat, (some H.2.1) = some a1 ∧ /- J33_init -/ ∃ H2 : JHp, jok (jprog G) 78 [jR (some H.2.1), jR r_1, jR r_2, jR r_3] (jnew H (jO 25 [jR none, jR none, jR none, jR none, jR none, jI 0]) 6) (.inl none) H2 ∧
  (i_4 = 0 →
    ∃ (a3 : Nat) (fs4 : List JVal) (v5 : JVal), r_3 = some a3 ∧ H2.1 a3 = some (true, jO 25 fs4) ∧ jn fs4 3 = some v5 ∧
    jwp (jprog G) 88 Rt 32 [some (jR this), some (jR r_1), some (jR r_2), some (jR r_3), some (jI i_4), some (jR (some H.2.1))] [] (jup H2 a3 (jO 25 (jset fs4 3 (jR (some H.2.1)))))) ∧
  (¬ i_4 = 0 →
    ∃ (a6 : Nat) (fs7 : List JVal) (v8 : JVal), r_3 = some a6 ∧ H2.1 a6 = some (true, jO 25 fs7) ∧ jn fs7 2 = some v8 ∧
    jwp (jprog G) 88 Rt 32 [some (jR this), some (jR r_1), some (jR r_2), some (jR r_3), some (jI i_4), some (jR (some H.2.1))] [] (jup H2 a6 (jO 25 (jset fs7 2 (jR (some H.2.1))))))) :
  jwp (jprog G) 88 Rt 0 [some (jR this), some (jR r_1), some (jR r_2), some (jR r_3), some (jI i_4), none] [] H :=
  junf_wp (jprog_nf G) (stop := jmem [32]) (pJ6_addEntry G) 4000 _ _ _ _ h
/-- java/util/TreeMap addEntry(Ljava/lang/Object;Ljava/lang/Object;Ljava/util/TreeMap$Entry;Z)V @32 -/
theorem gJ6_addEntry_32 (G : JG) {Rt : JRt} (r_0 : Option Nat) (q_1 : Option JVal) (q_2 : Option JVal) (q_3 : Option JVal) (q_4 : Option JVal) (r_5 : Option Nat) {H : JHp} (h :
  ∃ (a1 : Nat) (fs2 : List JVal), r_0 = some a1 ∧ job H a1 13 fs2 ∧ /- J6_fixAfterInsertion -/ ∃ H3 : JHp, jok (jprog G) 87 [jR r_0, jR r_5] H (.inl none) H3 ∧
  ∃ (a4 : Nat) (fs5 : List JVal) (x6 : Int32), r_0 = some a4 ∧ job H3 a4 13 fs5 ∧ jn fs5 4 = some (jI x6) ∧
  ∃ (a7 : Nat) (fs8 : List JVal) (v9 : JVal), r_0 = some a7 ∧ H3.1 a7 = some (true, jO 13 fs8) ∧ jn fs8 4 = some v9 ∧
  ∃ (a10 : Nat) (fs11 : List JVal) (x12 : Int32), r_0 = some a10 ∧ job (jup H3 a7 (jO 13 (jset fs8 4 (jI (x6 + (1 : Int32)))))) a10 13 fs11 ∧ jn fs11 5 = some (jI x12) ∧
  ∃ (a13 : Nat) (fs14 : List JVal) (v15 : JVal), r_0 = some a13 ∧ (jup H3 a7 (jO 13 (jset fs8 4 (jI (x6 + (1 : Int32)))))).1 a13 = some (true, jO 13 fs14) ∧ jn fs14 5 = some v15 ∧
  Rt (.inl none) (jup (jup H3 a7 (jO 13 (jset fs8 4 (jI (x6 + (1 : Int32)))))) a13 (jO 13 (jset fs14 5 (jI (x12 + (1 : Int32))))))) :
  jwp (jprog G) 88 Rt 32 [some (jR r_0), q_1, q_2, q_3, q_4, some (jR r_5)] [] H :=
  junf_wp (jprog_nf G) (stop := jmem [32]) (pJ6_addEntry G) 4000 _ _ _ _ h
/-- java/util/TreeMap put(Ljava/lang/Object;Ljava/lang/Object;Z)Ljava/lang/Object; @0 -/
theorem gJ6_put_2_0 (G : JG) {Rt : JRt} (this : Option Nat) (r_1 : Option Nat) (r_2 : Option Nat) (i_3 : Int32) {H : JHp} (h :
  ∃ (a1 : Nat) (fs2 : List JVal) (r3 : Option Nat), this = some a1 ∧ job H a1 13 fs2 ∧ jn fs2 3 = some (jR r3) ∧
  ((¬ r3 = none) →
    ∃ (a4 : Nat) (fs5 : List JVal) (r6 : Option Nat), this = some a4 ∧ job H a4 13 fs5 ∧ jn fs5 2 = some (jR r6) ∧
    (r6 = none →
      /- J13_requireNonNull -/ ∃ (r8 : Option Nat) (H7 : JHp), jok (jprog G) 68 [jR r_1] H (.inl (some (jR r8))) H7 ∧
      (∀ a, r_1 = some a → ∃ fs, job H7 a 21 fs) ∧
      jwp (jprog G) 89 Rt 123 [some (jR this), some (jR r_1), some (jR r_2), some (jI i_3), some (jR r3), none, none, some (jR r6), some (jR r_1), none] [] H7) ∧
    (¬ r6 = none →
      jwp (jprog G) 89 Rt 30 [some (jR this), some (jR r_1), some (jR r_2), some (jI i_3), some (jR r3), none, none, some (jR r6), none, none] [] H)) ∧
  (¬ (¬ r3 = none) →
    ∃ (a9 : Nat) (fs10 : List JVal), this = some a9 ∧ job H a9 13 fs10 ∧ /- J6_addEntryToEmptyMap -/ ∃ H11 : JHp, jok (jprog G) 79 [jR this, jR r_1, jR r_2] H (.inl none) H11 ∧
    Rt (.inl (some (jR none))) H11)) :
  jwp (jprog G) 89 Rt 0 [some (jR this), some (jR r_1), some (jR r_2), some (jI i_3), none, none, none, none, none, none] [] H :=
  junf_wp (jprog_nf G) (stop := jmem [30, 123, 201]) (pJ6_put_2 G) 4000 _ _ _ _ h
/-- java/util/TreeMap put(Ljava/lang/Object;Ljava/lang/Object;Z)Ljava/lang/Object; @30 -/
theorem gJ6_put_2_30 (G : JG) {Rt : JRt} (r_0 : Option Nat) (r_1 : Option Nat) (r_2 : Option Nat) (i_3 : Int32) (r_4 : Option Nat) (q_5 : Option JVal) (q_6 : Option JVal) (r_7 : Option Nat) (q_8 : Option JVal) (q_9 : Option JVal) {H : JHp} (h :
  ∃ (a1 : Nat) (fs2 : List JVal) (r3 : Option Nat), r_4 = some a1 ∧ job H a1 25 fs2 ∧ jn fs2 0 = some (jR r3) ∧
  ∃ (a4 : Nat) (fs5 : List JVal), r_7 = some a4 ∧ job H a4 2 fs5 ∧ /- X2_compare -/ ∃ (x7 : Int32) (H6 : JHp), jok (jprog G) 42 [jR r_7, jR r_1, jR r3] H (.inl (some (jI x7))) H6 ∧
  (0 ≤ x7 →
    (x7 ≤ 0 →
      ∃ (a8 : Nat) (fs9 : List JVal) (r10 : Option Nat), r_4 = some a8 ∧ job H6 a8 25 fs9 ∧ jn fs9 1 = some (jR r10) ∧
      (¬ i_3 = 0 →
        ∃ (a11 : Nat) (fs12 : List JVal) (v13 : JVal), r_4 = some a11 ∧ H6.1 a11 = some (true, jO 25 fs12) ∧ jn fs12 1 = some v13 ∧
        Rt (.inl (some (jR r10))) (jup H6 a11 (jO 25 (jset fs12 1 (jR r_2))))) ∧
      (¬ ¬ i_3 = 0 →
        ((¬ r10 = none) →
          Rt (.inl (some (jR r10))) H6) ∧
        (¬ (¬ r10 = none) →
          ∃ (a14 : Nat) (fs15 : List JVal) (v16 : JVal), r_4 = some a14 ∧ H6.1 a14 = some (true, jO 25 fs15) ∧ jn fs15 1 = some v16 ∧
          Rt (.inl (some (jR r10))) (jup H6 a14 (jO 25 (jset fs15 1 (jR r_2))))))) ∧
    (¬ x7 ≤ 0 →
      ∃ (a17 : Nat) (fs18 : List JVal) (r19 : Option Nat), r_4 = some a17 ∧ job H6 a17 25 fs18 ∧ jn fs18 3 = some (jR r19) ∧
      ((¬ r19 = none) →
        jwp (jprog G) 89 Rt 30 [some (jR r_0), some (jR r_1), some (jR r_2), some (jI i_3), some (jR r19), some (jI x7), some (jR r_4), some (jR r_7), q_8, q_9] [] H6) ∧
      (¬ (¬ r19 = none) →
        jwp (jprog G) 89 Rt 201 [some (jR r_0), some (jR r_1), some (jR r_2), some (jI i_3), some (jR r19), some (jI x7), some (jR r_4), some (jR r_7), q_8, q_9] [] H6))) ∧
  (¬ 0 ≤ x7 →
    ∃ (a20 : Nat) (fs21 : List JVal) (r22 : Option Nat), r_4 = some a20 ∧ job H6 a20 25 fs21 ∧ jn fs21 2 = some (jR r22) ∧
    ((¬ r22 = none) →
      jwp (jprog G) 89 Rt 30 [some (jR r_0), some (jR r_1), some (jR r_2), some (jI i_3), some (jR r22), some (jI x7), some (jR r_4), some (jR r_7), q_8, q_9] [] H6) ∧
    (¬ (¬ r22 = none) →
      jwp (jprog G) 89 Rt 201 [some (jR r_0), some (jR r_1), some (jR r_2), some (jI i_3), some (jR r22), some (jI x7), some (jR r_4), some (jR r_7), q_8, q_9] [] H6))) :
  jwp (jprog G) 89 Rt 30 [some (jR r_0), some (jR r_1), some (jR r_2), some (jI i_3), some (jR r_4), q_5, q_6, some (jR r_7), q_8, q_9] [] H :=
  junf_wp (jprog_nf G) (stop := jmem [30, 123, 201]) (pJ6_put_2 G) 4000 _ _ _ _ h
/-- java/util/TreeMap put(Ljava/lang/Object;Ljava/lang/Object;Z)Ljava/lang/Object; @123 -/
theorem gJ6_put_2_123 (G : JG) {Rt : JRt} (r_0 : Option Nat) (r_1 : Option Nat) (r_2 : Option Nat) (i_3 : Int32) (r_4 : Option Nat) (q_5 : Option JVal) (q_6 : Option JVal) (q_7 : Option JVal) (r_8 : Option Nat) (q_9 : Option JVal) {H : JHp} (h :
  ∃ (a1 : Nat) (fs2 : List JVal) (r3 : Option Nat), r_4 = some a1 ∧ job H a1 25 fs2 ∧ jn fs2 0 = some (jR r3) ∧
  ∃ (a4 : Nat) (fs5 : List JVal), r_8 = some a4 ∧ job H a4 21 fs5 ∧ /- J25_compareTo -/ ∃ (x7 : Int32) (H6 : JHp), jok (jprog G) 71 [jR r_8, jR r3] H (.inl (some (jI x7))) H6 ∧
  (0 ≤ x7 →
    (x7 ≤ 0 →
      ∃ (a8 : Nat) (fs9 : List JVal) (r10 : Option Nat), r_4 = some a8 ∧ job H6 a8 25 fs9 ∧ jn fs9 1 = some (jR r10) ∧
      (¬ i_3 = 0 →
        ∃ (a11 : Nat) (fs12 : List JVal) (v13 : JVal), r_4 = some a11 ∧ H6.1 a11 = some (true, jO 25 fs12) ∧ jn fs12 1 = some v13 ∧
        Rt (.inl (some (jR r10))) (jup H6 a11 (jO 25 (jset fs12 1 (jR r_2))))) ∧
      (¬ ¬ i_3 = 0 →
        ((¬ r10 = none) →
          Rt (.inl (some (jR r10))) H6) ∧
        (¬ (¬ r10 = none) →
          ∃ (a14 : Nat) (fs15 : List JVal) (v16 : JVal), r_4 = some a14 ∧ H6.1 a14 = some (true, jO 25 fs15) ∧ jn fs15 1 = some v16 ∧
          Rt (.inl (some (jR r10))) (jup H6 a14 (jO 25 (jset fs15 1 (jR r_2))))))) ∧
    (¬ x7 ≤ 0 →
      ∃ (a17 : Nat) (fs18 : List JVal) (r19 : Option Nat), r_4 = some a17 ∧ job H6 a17 25 fs18 ∧ jn fs18 3 = some (jR r19) ∧
      ((¬ r19 = none) →
        jwp (jprog G) 89 Rt 123 [some (jR r_0), some (jR r_1), some (jR r_2), some (jI i_3), some (jR r19), some (jI x7), some (jR r_4), q_7, some (jR r_8), q_9] [] H6) ∧
      (¬ (¬ r19 = none) →
        jwp (jprog G) 89 Rt 201 [some (jR r_0), some (jR r_1), some (jR r_2), some (jI i_3), some (jR r19), some (jI x7), some (jR r_4), q_7, some (jR r_8), q_9] [] H6))) ∧
  (¬ 0 ≤ x7 →
    ∃ (a20 : Nat) (fs21 : List JVal) (r22 : Option Nat), r_4 = some a20 ∧ job H6 a20 25 fs21 ∧ jn fs21 2 = some (jR r22) ∧
    ((¬ r22 = none) →
      jwp (jprog G) 89 Rt 123 [some (jR r_0), some (jR r_1), some (jR r_2), some (jI i_3), some (jR r22), some (jI x7), some (jR r_4), q_7, some (jR r_8), q_9] [] H6) ∧
    (¬ (¬ r22 = none) →
      jwp (jprog G) 89 Rt 201 [some (jR r_0), some (jR r_1), some (jR r_2), some (jI i_3), some (jR r22), some (jI x7), some (jR r_4), q_7, some (jR r_8), q_9] [] H6))) :
  jwp (jprog G) 89 Rt 123 [some (jR r_0), some (jR r_1), some (jR r_2), some (jI i_3), some (jR r_4), q_5, q_6, q_7, some (jR r_8), q_9] [] H :=
  junf_wp (jprog_nf G) (stop := jmem [30, 123, 201]) (pJ6_put_2 G) 4000 _ _ _ _ h
/-- java/util/TreeMap put(Ljava/lang/Object;Ljava/lang/Object;Z)Ljava/lang/Object; @201 -/
theorem gJ6_put_2_201 (G : JG) {Rt : JRt} (r_0 : Option Nat) (r_1 : Option Nat) (r_2 : Option Nat) (q_3 : Option JVal) (q_4 : Option JVal) (i_5 : Int32) (r_6 : Option Nat) (q_7 : Option JVal) (q_8 : Option JVal) (q_9 : Option JVal) {H : JHp} (h :
  (0 ≤ i_5 →
    ∃ (a1 : Nat) (fs2 : List JVal), r_0 = some a1 ∧ job H a1 13 fs2 ∧ /- J6_addEntry -/ ∃ H3 : JHp, jok (jprog G) 88 [jR r_0, jR r_1, jR r_2, jR r_6, jI 0] H (.inl none) H3 ∧
    Rt (.inl (some (jR none))) H3) ∧
  (¬ 0 ≤ i_5 →
    ∃ (a4 : Nat) (fs5 : List JVal), r_0 = some a4 ∧ job H a4 13 fs5 ∧ /- J6_addEntry -/ ∃ H6 : JHp, jok (jprog G) 88 [jR r_0, jR r_1, jR r_2, jR r_6, jI 1] H (.inl none) H6 ∧
    Rt (.inl (some (jR none))) H6)) :
  jwp (jprog G) 89 Rt 201 [some (jR r_0), some (jR r_1), some (jR r_2), q_3, q_4, some (jI i_5), some (jR r_6), q_7, q_8, q_9] [] H :=
  junf_wp (jprog_nf G) (stop := jmem [30, 123, 201]) (pJ6_put_2 G) 4000 _ _ _ _ h
/-- java/util/TreeMap put(Ljava/lang/Object;Ljava/lang/Object;)Ljava/lang/Object; @0 -/
theorem gJ6_put_0 (G : JG) {Rt : JRt} (this : Option Nat) (r_1 : Option Nat) (r_2 : Option Nat) {H : JHp} (h :
  ∃ (a1 : Nat) (fs2 : List JVal), this = some a1 ∧ job H a1 13 fs2 ∧ /- J6_put_2 -/ ∃ (r4 : Option Nat) (H3 : JHp), jok (jprog G) 89 [jR this, jR r_1, jR r_2, jI 1] H (.inl (some (jR r4))) H3 ∧
  Rt (.inl (some (jR r4))) H3) :
  jwp (jprog G) 90 Rt 0 [some (jR this), some (jR r_1), some (jR r_2)] [] H :=
  junf_wp (jprog_nf G) (stop := jmem []) (pJ6_put G) 4000 _ _ _ _ h
/-- java/util/ArrayDeque sub(III)I @0 -/
theorem gJ7_sub_0 (G : JG) {Rt : JRt} (i_0 : Int32) (i_1 : Int32) (i_2 : Int32) {H : JHp} (h :
  (0 ≤ (i_0 - i_1) →
    Rt (.inl (some (jI (i_0 - i_1)))) H) ∧
  (¬ 0 ≤ (i_0 - i_1) →
    Rt (.inl (some (jI ((i_0 - i_1) + i_2)))) H)) :
  jwp (jprog G) 91 Rt 0 [some (jI i_0), some (jI i_1), some (jI i_2)] [] H :=
  junf_wp (jprog_nf G) (stop := jmem []) (pJ7_sub G) 4000 _ _ _ _ h
/-- java/util/ArrayDeque size()I @0 -/
theorem gJ7_size_0 (G : JG) {Rt : JRt} (this : Option Nat) {H : JHp} (h :
  ∃ (a1 : Nat) (fs2 : List JVal) (x3 : Int32), this = some a1 ∧ job H a1 14 fs2 ∧ jn fs2 2 = some (jI x3) ∧
  ∃ (a4 : Nat) (fs5 : List JVal) (x6 : Int32), this = some a4 ∧ job H a4 14 fs5 ∧ jn fs5 1 = some (jI x6) ∧
  ∃ (a7 : Nat) (fs8 : List JVal) (r9 : Option Nat), this = some a7 ∧ job H a7 14 fs8 ∧ jn fs8 0 = some (jR r9) ∧
  ∃ (a10 : Nat) (A11 : vp_A), r9 = some a10 ∧ jar H a10 3 A11 ∧
  /- J7_sub -/ ∃ (x13 : Int32) (H12 : JHp), jok (jprog G) 91 [jI x3, jI x6, jI (nI A11.1)] H (.inl (some (jI x13))) H12 ∧
  Rt (.inl (some (jI x13))) H12) :
  jwp (jprog G) 92 Rt 0 [some (jR this)] [] H :=
  junf_wp (jprog_nf G) (stop := jmem []) (pJ7_size G) 4000 _ _ _ _ h
/-- java/util/ArrayDeque$DeqIterator <init>(Ljava/util/ArrayDeque;)V @0 -/
theorem gJ34_init_0 (G : JG) {Rt : JRt} (this : Option Nat) (r_1 : Option Nat) {H : JHp} (h :
  ∃ (a1 : Nat) (fs2 : List JVal) (v3 : JVal), this = some a1 ∧ H.1 a1 = some (true, jO 26 fs2) ∧ jn fs2 3 = some v3 ∧
  ∃ a4 : Nat, this = some a4 ∧
  ∃ (a5 : Nat) (fs6 : List JVal) (r7 : Option Nat), this = some a5 ∧ job (jup H a1 (jO 26 (jset fs2 3 (jR r_1)))) a5 26 fs6 ∧ jn fs6 3 = some (jR r7) ∧
  ∃ (a8 : Nat) (fs9 : List JVal), r7 = some a8 ∧ job (jup H a1 (jO 26 (jset fs2 3 (jR r_1)))) a8 14 fs9 ∧ /- J7_size -/ ∃ (x11 : Int32) (H10 : JHp), jok (jprog G) 92 [jR r7] (jup H a1 (jO 26 (jset fs2 3 (jR r_1)))) (.inl (some (jI x11))) H10 ∧
  ∃ (a12 : Nat) (fs13 : List JVal) (v14 : JVal), this = some a12 ∧ H10.1 a12 = some (true, jO 26 fs13) ∧ jn fs13 1 = some v14 ∧
  ∃ (a15 : Nat) (fs16 : List JVal) (v17 : JVal), this = some a15 ∧ (jup H10 a12 (jO 26 (jset fs13 1 (jI x11)))).1 a15 = some (true, jO 26 fs16) ∧ jn fs16 2 = some v17 ∧
  ∃ (a18 : Nat) (fs19 : List JVal) (x20 : Int32), r_1 = some a18 ∧ job (jup (jup H10 a12 (jO 26 (jset fs13 1 (jI x11)))) a15 (jO 26 (jset fs16 2 (jI (-1))))) a18 14 fs19 ∧ jn fs19 1 = some (jI x20) ∧
  ∃ (a21 : Nat) (fs22 : List JVal) (v23 : JVal), this = some a21 ∧ (jup (jup H10 a12 (jO 26 (jset fs13 1 (jI x11)))) a15 (jO 26 (jset fs16 2 (jI (-1))))).1 a21 = some (true, jO 26 fs22) ∧ jn fs22 0 = some v23 ∧
  Rt (.inl none) (jup (jup (jup H10 a12 (jO 26 (jset fs13 1 (jI x11)))) a15 (jO 26 (jset fs16 2 (jI (-1))))) a21 (jO 26 (jset fs22 0 (jI x20))))) :
  jwp (jprog G) 93 Rt 0 [some (jR this), some (jR r_1)] [] H :=
  junf_wp (jprog_nf G) (stop := jmem []) (pJ34_init G) 4000 _ _ _ _ h
/-- java/util/ArrayDeque iterator()Ljava/util/Iterator; @0 -/
theorem gJ7_iterator_0 (G : JG) {Rt : JRt} (this : Option Nat) {H : JHp} (h :
  ∃ a1 : Nat, (some H.2.1) = some a1 ∧ /- J34_init -/ ∃ H2 : JHp, jok (jprog G) 93 [jR (some H.2.1), jR this] (jnew H (jO 26 [jI 0, jI 0, jI 0, jR none]) 4) (.inl none) H2 ∧
  Rt (.inl (some (jR (some H.2.1)))) H2) :
  jwp (jprog G) 94 Rt 0 [some (jR this)] [] H :=
  junf_wp (jprog_nf G) (stop := jmem []) (pJ7_iterator G) 4000 _ _ _ _ h
/-- java/util/ArrayDeque$DeqIterator hasNext()Z @0 -/
theorem gJ34_hasNext_0 (G : JG) {Rt : JRt} (this : Option Nat) {H : JHp} (h :
  ∃ (a1 : Nat) (fs2 : List JVal) (x3 : Int32), this = some a1 ∧ job H a1 26 fs2 ∧ jn fs2 1 = some (jI x3) ∧
  (x3 ≤ 0 →
    jbool (0 : Int32) ∧ Rt (.inl (some (jI 0))) H) ∧
  (¬ x3 ≤ 0 →
    jbool (1 : Int32) ∧ Rt (.inl (some (jI 1))) H)) :
  jwp (jprog G) 95 Rt 0 [some (jR this)] [] H :=
  junf_wp (jprog_nf G) (stop := jmem []) (pJ34_hasNext G) 4000 _ _ _ _ h
/-- java/util/ArrayDeque nonNullElementAt([Ljava/lang/Object;I)Ljava/lang/Object; @0 -/
theorem gJ7_nonNullElementAt_0 (G : JG) {Rt : JRt} (r_0 : Option Nat) (i_1 : Int32) {H : JHp} (h :
  ∃ (a1 n2 : Nat) (f3 : Nat → Option Nat), r_0 = some a1 ∧ jar H a1 3 (aR n2 f3) ∧ vp_in i_1 n2 ∧
  ((¬ (f3 (i_1).toNatClampNeg) = none) →
    Rt (.inl (some (jR (f3 (i_1).toNatClampNeg)))) H) ∧
  (¬ (¬ (f3 (i_1).toNatClampNeg) = none) →
    False)) :
  jwp (jprog G) 96 Rt 0 [some (jR r_0), some (jI i_1), none] [] H :=
  junf_wp (jprog_nf G) (stop := jmem []) (pJ7_nonNullElementAt G) 4000 _ _ _ _ h
/-- java/util/ArrayDeque$DeqIterator next()Ljava/lang/Object; @0 -/
theorem gJ34_next_0 (G : JG) {Rt : JRt} (this : Option Nat) {H : JHp} (h :
  ∃ (a1 : Nat) (fs2 : List JVal) (x3 : Int32), this = some a1 ∧ job H a1 26 fs2 ∧ jn fs2 1 = some (jI x3) ∧
  (0 < x3 →
    ∃ (a4 : Nat) (fs5 : List JVal) (r6 : Option Nat), this = some a4 ∧ job H a4 26 fs5 ∧ jn fs5 3 = some (jR r6) ∧
    ∃ (a7 : Nat) (fs8 : List JVal) (r9 : Option Nat), r6 = some a7 ∧ job H a7 14 fs8 ∧ jn fs8 0 = some (jR r9) ∧
    ∃ (a10 : Nat) (fs11 : List JVal) (x12 : Int32), this = some a10 ∧ job H a10 26 fs11 ∧ jn fs11 0 = some (jI x12) ∧
    /- J7_nonNullElementAt -/ ∃ (r14 : Option Nat) (H13 : JHp), jok (jprog G) 96 [jR r9, jI x12] H (.inl (some (jR r14))) H13 ∧
    ∃ (a15 : Nat) (fs16 : List JVal) (x17 : Int32), this = some a15 ∧ job H13 a15 26 fs16 ∧ jn fs16 0 = some (jI x17) ∧
    ∃ (a18 : Nat) (fs19 : List JVal) (v20 : JVal), this = some a18 ∧ H13.1 a18 = some (true, jO 26 fs19) ∧ jn fs19 2 = some v20 ∧
    ∃ (a21 : Nat) (A22 : vp_A), r9 = some a21 ∧ jar (jup H13 a18 (jO 26 (jset fs19 2 (jI x17)))) a21 3 A22 ∧
    /- J7_inc -/ ∃ (x24 : Int32) (H23 : JHp), jok (jprog G) 31 [jI x17, jI (nI A22.1)] (jup H13 a18 (jO 26 (jset fs19 2 (jI x17)))) (.inl (some (jI x24))) H23 ∧
    ∃ (a25 : Nat) (fs26 : List JVal) (v27 : JVal), this = some a25 ∧ H23.1 a25 = some (true, jO 26 fs26) ∧ jn fs26 0 = some v27 ∧
    ∃ (a28 : Nat) (fs29 : List JVal) (x30 : Int32), this = some a28 ∧ job (jup H23 a25 (jO 26 (jset fs26 0 (jI x24)))) a28 26 fs29 ∧ jn fs29 1 = some (jI x30) ∧
    ∃ (a31 : Nat) (fs32 : List JVal) (v33 : JVal), this = some a31 ∧ (jup H23 a25 (jO 26 (jset fs26 0 (jI x24)))).1 a31 = some (true, jO 26 fs32) ∧ jn fs32 1 = some v33 ∧
    Rt (.inl (some (jR r14))) (jup (jup H23 a25 (jO 26 (jset fs26 0 (jI x24)))) a31 (jO 26 (jset fs32 1 (jI (x30 - (1 : Int32))))))) ∧
  (¬ 0 < x3 →
    False)) :
  jwp (jprog G) 97 Rt 0 [some (jR this), none, none] [] H :=
  junf_wp (jprog_nf G) (stop := jmem []) (pJ34_next G) 4000 _ _ _ _ h
/-- java/util/ArrayDeque newCapacity(II)I @0 -/
theorem gJ7_newCapacity_0 (G : JG) {Rt : JRt} (this : Option Nat) (i_1 : Int32) (i_2 : Int32) {H : JHp} (h :
  ∃ (a1 : Nat) (fs2 : List JVal) (r3 : Option Nat), this = some a1 ∧ job H a1 14 fs2 ∧ jn fs2 0 = some (jR r3) ∧
  ∃ (a4 : Nat) (A5 : vp_A), r3 = some a4 ∧ jar H a4 3 A5 ∧
  ((((nI A5.1) + i_1) - (2147483639 : Int32)) ≤ 0 →
    (i_1 ≤ i_2 →
      (0 ≤ (((nI A5.1) + i_2) - (2147483639 : Int32)) →
        Rt (.inl (some (jI 2147483639))) H) ∧
      (¬ 0 ≤ (((nI A5.1) + i_2) - (2147483639 : Int32)) →
        Rt (.inl (some (jI ((nI A5.1) + i_2)))) H)) ∧
    (¬ i_1 ≤ i_2 →
      Rt (.inl (some (jI ((nI A5.1) + i_1)))) H)) ∧
  (¬ (((nI A5.1) + i_1) - (2147483639 : Int32)) ≤ 0 →
    (0 ≤ ((nI A5.1) + i_1) →
      Rt (.inl (some (jI 2147483647))) H) ∧
    (¬ 0 ≤ ((nI A5.1) + i_1) →
      False))) :
  jwp (jprog G) 98 Rt 0 [some (jR this), some (jI i_1), some (jI i_2), none, none] [] H :=
  junf_wp (jprog_nf G) (stop := jmem []) (pJ7_newCapacity G) 4000 _ _ _ _ h
/-- java/util/ArrayDeque grow(I)V @0 -/
theorem gJ7_grow_0 (G : JG) {Rt : JRt} (this : Option Nat) (i_1 : Int32) {H : JHp} (h :
  ∃ (a1 : Nat) (fs2 : List JVal) (r3 : Option Nat), this = some a1 ∧ job H a1 14 fs2 ∧ jn fs2 0 = some (jR r3) ∧
  ∃ (a4 : Nat) (A5 : vp_A), r3 = some a4 ∧ jar H a4 3 A5 ∧
  ((64 : Int32) ≤ (nI A5.1) →
    jwp (jprog G) 99 Rt 21 [some (jR this), some (jI i_1), some (jI (nI A5.1)), none, none, none, none, none, none] [jI (jshr (nI A5.1) (1 : Int32))] H) ∧
  (¬ (64 : Int32) ≤ (nI A5.1) →
    jwp (jprog G) 99 Rt 21 [some (jR this), some (jI i_1), some (jI (nI A5.1)), none, none, none, none, none, none] [jI ((nI A5.1) + (2 : Int32))] H)) :
  jwp (jprog G) 99 Rt 0 [some (jR this), some (jI i_1), none, none, none, none, none, none, none] [] H :=
  junf_wp (jprog_nf G) (stop := jmem [21, 49, 96, 145]) (pJ7_grow G) 4000 _ _ _ _ h
/-- java/util/ArrayDeque grow(I)V @21 -/
theorem gJ7_grow_21 (G : JG) {Rt : JRt} (r_0 : Option Nat) (i_1 : Int32) (i_2 : Int32) (q_3 : Option JVal) (q_4 : Option JVal) (q_5 : Option JVal) (q_6 : Option JVal) (q_7 : Option JVal) (q_8 : Option JVal) (si_0 : Int32) {H : JHp} (h :
  (si_0 < i_1 →
    ∃ (a1 : Nat) (fs2 : List JVal), r_0 = some a1 ∧ job H a1 14 fs2 ∧ /- J7_newCapacity -/ ∃ (x4 : Int32) (H3 : JHp), jok (jprog G) 98 [jR r_0, jI i_1, jI si_0] H (.inl (some (jI x4))) H3 ∧
    jwp (jprog G) 99 Rt 49 [some (jR r_0), some (jI i_1), some (jI i_2), some (jI x4), some (jI si_0), q_5, q_6, q_7, q_8] [] H3) ∧
  (¬ si_0 < i_1 →
    (((i_2 + si_0) - (2147483639 : Int32)) ≤ 0 →
      jwp (jprog G) 99 Rt 49 [some (jR r_0), some (jI i_1), some (jI i_2), some (jI (i_2 + si_0)), some (jI si_0), q_5, q_6, q_7, q_8] [] H) ∧
    (¬ ((i_2 + si_0) - (2147483639 : Int32)) ≤ 0 →
      ∃ (a5 : Nat) (fs6 : List JVal), r_0 = some a5 ∧ job H a5 14 fs6 ∧ /- J7_newCapacity -/ ∃ (x8 : Int32) (H7 : JHp), jok (jprog G) 98 [jR r_0, jI i_1, jI si_0] H (.inl (some (jI x8))) H7 ∧
      jwp (jprog G) 99 Rt 49 [some (jR r_0), some (jI i_1), some (jI i_2), some (jI x8), some (jI si_0), q_5, q_6, q_7, q_8] [] H7))) :
  jwp (jprog G) 99 Rt 21 [some (jR r_0), some (jI i_1), some (jI i_2), q_3, q_4, q_5, q_6, q_7, q_8] [jI si_0] H :=
  junf_wp (jprog_nf G) (stop := jmem [21, 49, 96, 145]) (pJ7_grow G) 4000 _ _ _ _ h
/-- java/util/ArrayDeque grow(I)V @49 -/
theorem gJ7_grow_49 (G : JG) {Rt : JRt} (r_0 : Option Nat) (q_1 : Option JVal) (i_2 : Int32) (i_3 : Int32) (q_4 : Option JVal) (q_5 : Option JVal) (q_6 : Option JVal) (q_7 : Option JVal) (q_8 : Option JVal) {H : JHp} (h :
  ∃ (a1 : Nat) (fs2 : List JVal) (r3 : Option Nat), r_0 = some a1 ∧ job H a1 14 fs2 ∧ jn fs2 0 = some (jR r3) ∧
  /- J21_copyOf_2 -/ ∃ (r5 : Option Nat) (H4 : JHp), jok (jprog G) 39 [jR r3, jI i_3] H (.inl (some (jR r5))) H4 ∧
  ∃ (a6 : Nat) (fs7 : List JVal) (v8 : JVal), r_0 = some a6 ∧ H4.1 a6 = some (true, jO 14 fs7) ∧ jn fs7 0 = some v8 ∧
  ∃ (a9 : Nat) (fs10 : List JVal) (x11 : Int32), r_0 = some a9 ∧ job (jup H4 a6 (jO 14 (jset fs7 0 (jR r5)))) a9 14 fs10 ∧ jn fs10 2 = some (jI x11) ∧
  ∃ (a12 : Nat) (fs13 : List JVal) (x14 : Int32), r_0 = some a12 ∧ job (jup H4 a6 (jO 14 (jset fs7 0 (jR r5)))) a12 14 fs13 ∧ jn fs13 1 = some (jI x14) ∧
  (x11 < x14 →
    jwp (jprog G) 99 Rt 96 [some (jR r_0), q_1, some (jI i_2), some (jI i_3), (jclr q_4), some (jR r5), q_6, q_7, q_8] [] (jup H4 a6 (jO 14 (jset fs7 0 (jR r5))))) ∧
  (¬ x11 < x14 →
    ∃ (a15 : Nat) (fs16 : List JVal) (x17 : Int32), r_0 = some a15 ∧ job (jup H4 a6 (jO 14 (jset fs7 0 (jR r5)))) a15 14 fs16 ∧ jn fs16 2 = some (jI x17) ∧
    ∃ (a18 : Nat) (fs19 : List JVal) (x20 : Int32), r_0 = some a18 ∧ job (jup H4 a6 (jO 14 (jset fs7 0 (jR r5)))) a18 14 fs19 ∧ jn fs19 1 = some (jI x20) ∧
    (¬ x17 = x20 →
      Rt (.inl none) (jup H4 a6 (jO 14 (jset fs7 0 (jR r5))))) ∧
    (¬ ¬ x17 = x20 →
      ∃ (a21 : Nat) (fs22 : List JVal) (x23 : Int32), r_0 = some a21 ∧ job (jup H4 a6 (jO 14 (jset fs7 0 (jR r5)))) a21 14 fs22 ∧ jn fs22 1 = some (jI x23) ∧
      ∃ (a24 n25 : Nat) (f26 : Nat → Option Nat), r5 = some a24 ∧ jar (jup H4 a6 (jO 14 (jset fs7 0 (jR r5)))) a24 3 (aR n25 f26) ∧ vp_in x23 n25 ∧
      ((f26 (x23).toNatClampNeg) = none →
        Rt (.inl none) (jup H4 a6 (jO 14 (jset fs7 0 (jR r5))))) ∧
      (¬ (f26 (x23).toNatClampNeg) = none →
        jwp (jprog G) 99 Rt 96 [some (jR r_0), q_1, some (jI i_2), some (jI i_3), (jclr q_4), some (jR r5), q_6, q_7, q_8] [] (jup H4 a6 (jO 14 (jset fs7 0 (jR r5)))))))) :
  jwp (jprog G) 99 Rt 49 [some (jR r_0), q_1, some (jI i_2), some (jI i_3), q_4, q_5, q_6, q_7, q_8] [] H :=
  junf_wp (jprog_nf G) (stop := jmem [21, 49, 96, 145]) (pJ7_grow G) 4000 _ _ _ _ h
/-- java/util/ArrayDeque grow(I)V @96 -/
theorem gJ7_grow_96 (G : JG) {Rt : JRt} (r_0 : Option Nat) (q_1 : Option JVal) (i_2 : Int32) (i_3 : Int32) (q_4 : Option JVal) (r_5 : Option Nat) (q_6 : Option JVal) (q_7 : Option JVal) (q_8 : Option JVal) {H : JHp} (h :
  ∃ (a1 : Nat) (fs2 : List JVal) (x3 : Int32), r_0 = some a1 ∧ job H a1 14 fs2 ∧ jn fs2 1 = some (jI x3) ∧
  ∃ (a4 : Nat) (fs5 : List JVal) (x6 : Int32), r_0 = some a4 ∧ job H a4 14 fs5 ∧ jn fs5 1 = some (jI x6) ∧
  ∃ (a7 : Nat) (fs8 : List JVal) (x9 : Int32), r_0 = some a7 ∧ job H a7 14 fs8 ∧ jn fs8 1 = some (jI x9) ∧
  ∃ (a10 b10 n10 m10 : Nat) (f10 g10 : Nat → Option Nat) (sp10 dp10 k10 : Nat), r_5 = some a10 ∧ r_5 = some b10 ∧ jar H a10 3 (aR n10 f10) ∧ H.1 b10 = some (true, jA 3 (aR m10 g10)) ∧ x3 = nI sp10 ∧ (x6 + (i_3 - i_2)) = nI dp10 ∧ (i_2 - x9) = nI k10 ∧ sp10 + k10 ≤ n10 ∧ dp10 + k10 ≤ m10 ∧ n10 < 2 ^ 31 ∧ m10 < 2 ^ 31 ∧ (∀ q, q < k10 → ∀ y, f10 (sp10 + q) = some y → jobn H y) ∧
  ∃ (a11 : Nat) (fs12 : List JVal) (x13 : Int32), r_0 = some a11 ∧ job (jup H b10 (jA 3 (aR m10 (va_cpy f10 g10 sp10 dp10 k10)))) a11 14 fs12 ∧ jn fs12 1 = some (jI x13) ∧
  ∃ (a14 : Nat) (fs15 : List JVal) (x16 : Int32), r_0 = some a14 ∧ job (jup H b10 (jA 3 (aR m10 (va_cpy f10 g10 sp10 dp10 k10)))) a14 14 fs15 ∧ jn fs15 1 = some (jI x16) ∧
  ∃ (a17 : Nat) (fs18 : List JVal) (v19 : JVal), r_0 = some a17 ∧ (jup H b10 (jA 3 (aR m10 (va_cpy f10 g10 sp10 dp10 k10)))).1 a17 = some (true, jO 14 fs18) ∧ jn fs18 1 = some v19 ∧
  jwp (jprog G) 99 Rt 145 [some (jR r_0), q_1, some (jI i_2), some (jI i_3), q_4, some (jR r_5), some (jI (i_3 - i_2)), some (jI x13), some (jI (x16 + (i_3 - i_2)))] [] (jup (jup H b10 (jA 3 (aR m10 (va_cpy f10 g10 sp10 dp10 k10)))) a17 (jO 14 (jset fs18 1 (jI (x16 + (i_3 - i_2))))))) :
  jwp (jprog G) 99 Rt 96 [some (jR r_0), q_1, some (jI i_2), some (jI i_3), q_4, some (jR r_5), q_6, q_7, q_8] [] H :=
  junf_wp (jprog_nf G) (stop := jmem [21, 49, 96, 145]) (pJ7_grow G) 4000 _ _ _ _ h
/-- java/util/ArrayDeque grow(I)V @145 -/
theorem gJ7_grow_145 (G : JG) {Rt : JRt} (q_0 : Option JVal) (q_1 : Option JVal) (q_2 : Option JVal) (q_3 : Option JVal) (q_4 : Option JVal) (r_5 : Option Nat) (q_6 : Option JVal) (i_7 : Int32) (i_8 : Int32) {H : JHp} (h :
  (i_8 ≤ i_7 →
    Rt (.inl none) H) ∧
  (¬ i_8 ≤ i_7 →
    ∃ (a1 n2 : Nat) (f3 : Nat → Option Nat), r_5 = some a1 ∧ H.1 a1 = some (true, jA 3 (aR n2 f3)) ∧ vp_in i_7 n2 ∧ (∀ b, none = some b → jobn H b) ∧ 
    jwp (jprog G) 99 Rt 145 [q_0, q_1, q_2, q_3, q_4, some (jR r_5), (jclr q_6), some (jI (i_7 + 1)), some (jI i_8)] [] (jup H a1 (jA 3 (aR n2 (va_up f3 (i_7).toNatClampNeg none)))))) :
  jwp (jprog G) 99 Rt 145 [q_0, q_1, q_2, q_3, q_4, some (jR r_5), q_6, some (jI i_7), some (jI i_8)] [] H :=
  junf_wp (jprog_nf G) (stop := jmem [21, 49, 96, 145]) (pJ7_grow G) 4000 _ _ _ _ h
/-- java/util/ArrayDeque addLast(Ljava/lang/Object;)V @0 -/
theorem gJ7_addLast_0 (G : JG) {Rt : JRt} (this : Option Nat) (r_1 : Option Nat) {H : JHp} (h :
  ((¬ r_1 = none) →
    ∃ (a1 : Nat) (fs2 : List JVal) (r3 : Option Nat), this = some a1 ∧ job H a1 14 fs2 ∧ jn fs2 0 = some (jR r3) ∧
    ∃ (a4 : Nat) (fs5 : List JVal) (x6 : Int32), this = some a4 ∧ job H a4 14 fs5 ∧ jn fs5 2 = some (jI x6) ∧
    ∃ (a7 n8 : Nat) (f9 : Nat → Option Nat), r3 = some a7 ∧ H.1 a7 = some (true, jA 3 (aR n8 f9)) ∧ vp_in x6 n8 ∧ (∀ b, r_1 = some b → jobn H b) ∧ 
    ∃ (a10 : Nat) (fs11 : List JVal) (x12 : Int32), this = some a10 ∧ job (jup H a7 (jA 3 (aR n8 (va_up f9 (x6).toNatClampNeg r_1)))) a10 14 fs11 ∧ jn fs11 1 = some (jI x12) ∧
    ∃ (a13 : Nat) (fs14 : List JVal) (x15 : Int32), this = some a13 ∧ job (jup H a7 (jA 3 (aR n8 (va_up f9 (x6).toNatClampNeg r_1)))) a13 14 fs14 ∧ jn fs14 2 = some (jI x15) ∧
    ∃ (a16 : Nat) (A17 : vp_A), r3 = some a16 ∧ jar (jup H a7 (jA 3 (aR n8 (va_up f9 (x6).toNatClampNeg r_1)))) a16 3 A17 ∧
    /- J7_inc -/ ∃ (x19 : Int32) (H18 : JHp), jok (jprog G) 31 [jI x15, jI (nI A17.1)] (jup H a7 (jA 3 (aR n8 (va_up f9 (x6).toNatClampNeg r_1)))) (.inl (some (jI x19))) H18 ∧
    ∃ (a20 : Nat) (fs21 : List JVal) (v22 : JVal), this = some a20 ∧ H18.1 a20 = some (true, jO 14 fs21) ∧ jn fs21 2 = some v22 ∧
    (¬ x12 = x19 →
      Rt (.inl none) (jup H18 a20 (jO 14 (jset fs21 2 (jI x19))))) ∧
    (¬ ¬ x12 = x19 →
      ∃ (a23 : Nat) (fs24 : List JVal), this = some a23 ∧ job (jup H18 a20 (jO 14 (jset fs21 2 (jI x19)))) a23 14 fs24 ∧ /- J7_grow -/ ∃ H25 : JHp, jok (jprog G) 99 [jR this, jI 1] (jup H18 a20 (jO 14 (jset fs21 2 (jI x19)))) (.inl none) H25 ∧
      Rt (.inl none) H25)) ∧
  (¬ (¬ r_1 = none) →
    False)) :
  jwp (jprog G) 100 Rt 0 [some (jR this), some (jR r_1), none] [] H :=
  junf_wp (jprog_nf G) (stop := jmem []) (pJ7_addLast G) 4000 _ _ _ _ h
/-- java/util/ArrayDeque circularClear([Ljava/lang/Object;II)V @0 -/
theorem gJ7_circularClear_0 (G : JG) {Rt : JRt} (r_0 : Option Nat) (i_1 : Int32) (i_2 : Int32) {H : JHp} (h :
  (i_2 < i_1 →
    ∃ (a1 : Nat) (A2 : vp_A), r_0 = some a1 ∧ jar H a1 3 A2 ∧
    jwp (jprog G) 102 Rt 12 [some (jR r_0), some (jI i_1), some (jI i_2), some (jI (nI A2.1))] [] H) ∧
  (¬ i_2 < i_1 →
    jwp (jprog G) 102 Rt 12 [some (jR r_0), some (jI i_1), some (jI i_2), some (jI i_2)] [] H)) :
  jwp (jprog G) 102 Rt 0 [some (jR r_0), some (jI i_1), some (jI i_2), none] [] H :=
  junf_wp (jprog_nf G) (stop := jmem [12]) (pJ7_circularClear G) 4000 _ _ _ _ h
/-- java/util/ArrayDeque circularClear([Ljava/lang/Object;II)V @12 -/
theorem gJ7_circularClear_12 (G : JG) {Rt : JRt} (r_0 : Option Nat) (i_1 : Int32) (i_2 : Int32) (i_3 : Int32) {H : JHp} (h :
  (i_3 ≤ i_1 →
    (¬ i_3 = i_2 →
      jwp (jprog G) 102 Rt 12 [some (jR r_0), some (jI 0), some (jI i_2), some (jI i_2)] [] H) ∧
    (¬ ¬ i_3 = i_2 →
      Rt (.inl none) H)) ∧
  (¬ i_3 ≤ i_1 →
    ∃ (a1 n2 : Nat) (f3 : Nat → Option Nat), r_0 = some a1 ∧ H.1 a1 = some (true, jA 3 (aR n2 f3)) ∧ vp_in i_1 n2 ∧ (∀ b, none = some b → jobn H b) ∧ 
    jwp (jprog G) 102 Rt 12 [some (jR r_0), some (jI (i_1 + 1)), some (jI i_2), some (jI i_3)] [] (jup H a1 (jA 3 (aR n2 (va_up f3 (i_1).toNatClampNeg none)))))) :
  jwp (jprog G) 102 Rt 12 [some (jR r_0), some (jI i_1), some (jI i_2), some (jI i_3)] [] H :=
  junf_wp (jprog_nf G) (stop := jmem [12]) (pJ7_circularClear G) 4000 _ _ _ _ h
/-- java/util/ArrayDeque clear()V @0 -/
theorem gJ7_clear_0 (G : JG) {Rt : JRt} (this : Option Nat) {H : JHp} (h :
  ∃ (a1 : Nat) (fs2 : List JVal) (r3 : Option Nat), this = some a1 ∧ job H a1 14 fs2 ∧ jn fs2 0 = some (jR r3) ∧
  ∃ (a4 : Nat) (fs5 : List JVal) (x6 : Int32), this = some a4 ∧ job H a4 14 fs5 ∧ jn fs5 1 = some (jI x6) ∧
  ∃ (a7 : Nat) (fs8 : List JVal) (x9 : Int32), this = some a7 ∧ job H a7 14 fs8 ∧ jn fs8 2 = some (jI x9) ∧
  /- J7_circularClear -/ ∃ H10 : JHp, jok (jprog G) 102 [jR r3, jI x6, jI x9] H (.inl none) H10 ∧
  ∃ (a11 : Nat) (fs12 : List JVal) (v13 : JVal), this = some a11 ∧ H10.1 a11 = some (true, jO 14 fs12) ∧ jn fs12 2 = some v13 ∧
  ∃ (a14 : Nat) (fs15 : List JVal) (v16 : JVal), this = some a14 ∧ (jup H10 a11 (jO 14 (jset fs12 2 (jI 0)))).1 a14 = some (true, jO 14 fs15) ∧ jn fs15 1 = some v16 ∧
  Rt (.inl none) (jup (jup H10 a11 (jO 14 (jset fs12 2 (jI 0)))) a14 (jO 14 (jset fs15 1 (jI 0))))) :
  jwp (jprog G) 103 Rt 0 [some (jR this)] [] H :=
  junf_wp (jprog_nf G) (stop := jmem []) (pJ7_clear G) 4000 _ _ _ _ h
/-- java/util/ArrayList size()I @0 -/
theorem gJ2_size_0 (G : JG) {Rt : JRt} (this : Option Nat) {H : JHp} (h :
  ∃ (a1 : Nat) (fs2 : List JVal) (x3 : Int32), this = some a1 ∧ job H a1 11 fs2 ∧ jn fs2 2 = some (jI x3) ∧
  Rt (.inl (some (jI x3))) H) :
  jwp (jprog G) 104 Rt 0 [some (jR this)] [] H :=
  junf_wp (jprog_nf G) (stop := jmem []) (pJ2_size G) 4000 _ _ _ _ h
/-- java/util/ArrayDeque dec(II)I @0 -/
theorem gJ7_dec_0 (G : JG) {Rt : JRt} (i_0 : Int32) (i_1 : Int32) {H : JHp} (h :
  (0 ≤ (i_0 + (-1)) →
    Rt (.inl (some (jI (i_0 + (-1))))) H) ∧
  (¬ 0 ≤ (i_0 + (-1)) →
    Rt (.inl (some (jI (i_1 - (1 : Int32))))) H)) :
  jwp (jprog G) 110 Rt 0 [some (jI i_0), some (jI i_1)] [] H :=
  junf_wp (jprog_nf G) (stop := jmem []) (pJ7_dec G) 4000 _ _ _ _ h
/-- java/util/ArrayDeque pollLast()Ljava/lang/Object; @0 -/
theorem gJ7_pollLast_0 (G : JG) {Rt : JRt} (this : Option Nat) {H : JHp} (h :
  ∃ (a1 : Nat) (fs2 : List JVal) (r3 : Option Nat), this = some a1 ∧ job H a1 14 fs2 ∧ jn fs2 0 = some (jR r3) ∧
  ∃ (a4 : Nat) (fs5 : List JVal) (x6 : Int32), this = some a4 ∧ job H a4 14 fs5 ∧ jn fs5 2 = some (jI x6) ∧
  ∃ (a7 : Nat) (A8 : vp_A), r3 = some a7 ∧ jar H a7 3 A8 ∧
  /- J7_dec -/ ∃ (x10 : Int32) (H9 : JHp), jok (jprog G) 110 [jI x6, jI (nI A8.1)] H (.inl (some (jI x10))) H9 ∧
  /- J7_elementAt -/ ∃ (r12 : Option Nat) (H11 : JHp), jok (jprog G) 30 [jR r3, jI x10] H9 (.inl (some (jR r12))) H11 ∧
  (r12 = none →
    Rt (.inl (some (jR r12))) H11) ∧
  (¬ r12 = none →
    ∃ (a13 : Nat) (fs14 : List JVal) (v15 : JVal), this = some a13 ∧ H11.1 a13 = some (true, jO 14 fs14) ∧ jn fs14 2 = some v15 ∧
    ∃ (a16 n17 : Nat) (f18 : Nat → Option Nat), r3 = some a16 ∧ (jup H11 a13 (jO 14 (jset fs14 2 (jI x10)))).1 a16 = some (true, jA 3 (aR n17 f18)) ∧ vp_in x10 n17 ∧ (∀ b, none = some b → jobn (jup H11 a13 (jO 14 (jset fs14 2 (jI x10)))) b) ∧ 
    Rt (.inl (some (jR r12))) (jup (jup H11 a13 (jO 14 (jset fs14 2 (jI x10)))) a16 (jA 3 (aR n17 (va_up f18 (x10).toNatClampNeg none)))))) :
  jwp (jprog G) 111 Rt 0 [some (jR this), none, none, none] [] H :=
  junf_wp (jprog_nf G) (stop := jmem []) (pJ7_pollLast G) 4000 _ _ _ _ h
/-- java/util/ArrayDeque removeLast()Ljava/lang/Object; @0 -/
theorem gJ7_removeLast_0 (G : JG) {Rt : JRt} (this : Option Nat) {H : JHp} (h :
  ∃ (a1 : Nat) (fs2 : List JVal), this = some a1 ∧ job H a1 14 fs2 ∧ /- J7_pollLast -/ ∃ (r4 : Option Nat) (H3 : JHp), jok (jprog G) 111 [jR this] H (.inl (some (jR r4))) H3 ∧
  ((¬ r4 = none) →
    Rt (.inl (some (jR r4))) H3) ∧
  (¬ (¬ r4 = none) →
    False)) :
  jwp (jprog G) 112 Rt 0 [some (jR this), none] [] H :=
  junf_wp (jprog_nf G) (stop := jmem []) (pJ7_removeLast G) 4000 _ _ _ _ h
/-- java/util/PriorityQueue size()I @0 -/
theorem gJ4_size_0 (G : JG) {Rt : JRt} (this : Option Nat) {H : JHp} (h :
  ∃ (a1 : Nat) (fs2 : List JVal) (x3 : Int32), this = some a1 ∧ job H a1 12 fs2 ∧ jn fs2 1 = some (jI x3) ∧
  Rt (.inl (some (jI x3))) H) :
  jwp (jprog G) 124 Rt 0 [some (jR this)] [] H :=
  junf_wp (jprog_nf G) (stop := jmem []) (pJ4_size G) 4000 _ _ _ _ h
/-- java/util/AbstractCollection isEmpty()Z @0 -/
theorem gJ0_isEmpty__J4_0 (G : JG) {Rt : JRt} (this : Option Nat) {H : JHp} (h :
  ∃ (a1 : Nat) (fs2 : List JVal), this = some a1 ∧ job H a1 12 fs2 ∧ /- J4_size -/ ∃ (x4 : Int32) (H3 : JHp), jok (jprog G) 124 [jR this] H (.inl (some (jI x4))) H3 ∧
  (¬ x4 = 0 →
    jbool (0 : Int32) ∧ Rt (.inl (some (jI 0))) H3) ∧
  (¬ ¬ x4 = 0 →
    jbool (1 : Int32) ∧ Rt (.inl (some (jI 1))) H3)) :
  jwp (jprog G) 126 Rt 0 [some (jR this)] [] H :=
  junf_wp (jprog_nf G) (stop := jmem []) (pJ0_isEmpty__J4 G) 4000 _ _ _ _ h
/-- java/util/PriorityQueue siftDownUsingComparator(ILjava/lang/Object;[Ljava/lang/Object;ILjava/util/Comparator;)V @0 -/
theorem gJ4_siftDownUsingComparator_0 (G : JG) {Rt : JRt} (i_0 : Int32) (r_1 : Option Nat) (r_2 : Option Nat) (i_3 : Int32) (r_4 : Option Nat) {H : JHp} (h :
  jwp (jprog G) 127 Rt 5 [some (jI i_0), some (jR r_1), some (jR r_2), some (jI i_3), some (jR r_4), some (jI (jushr i_3 (1 : Int32))), none, none, none] [] H) :
  jwp (jprog G) 127 Rt 0 [some (jI i_0), some (jR r_1), some (jR r_2), some (jI i_3), some (jR r_4), none, none, none, none] [] H :=
  junf_wp (jprog_nf G) (stop := jmem [5, 61]) (pJ4_siftDownUsingComparator G) 4000 _ _ _ _ h
/-- java/util/PriorityQueue siftDownUsingComparator(ILjava/lang/Object;[Ljava/lang/Object;ILjava/util/Comparator;)V @5 -/
theorem gJ4_siftDownUsingComparator_5 (G : JG) {Rt : JRt} (i_0 : Int32) (r_1 : Option Nat) (r_2 : Option Nat) (i_3 : Int32) (r_4 : Option Nat) (i_5 : Int32) (q_6 : Option JVal) (q_7 : Option JVal) (q_8 : Option JVal) {H : JHp} (h :
  (i_5 ≤ i_0 →
    ∃ (a1 n2 : Nat) (f3 : Nat → Option Nat), r_2 = some a1 ∧ H.1 a1 = some (true, jA 3 (aR n2 f3)) ∧ vp_in i_0 n2 ∧ (∀ b, r_1 = some b → jobn H b) ∧ 
    Rt (.inl none) (jup H a1 (jA 3 (aR n2 (va_up f3 (i_0).toNatClampNeg r_1))))) ∧
  (¬ i_5 ≤ i_0 →
    ∃ (a4 n5 : Nat) (f6 : Nat → Option Nat), r_2 = some a4 ∧ jar H a4 3 (aR n5 f6) ∧ vp_in ((jshl i_0 (1 : Int32)) + (1 : Int32)) n5 ∧
    (i_3 ≤ (((jshl i_0 (1 : Int32)) + (1 : Int32)) + (1 : Int32)) →
      jwp (jprog G) 127 Rt 61 [some (jI i_0), some (jR r_1), some (jR r_2), some (jI i_3), some (jR r_4), some (jI i_5), some (jI ((jshl i_0 (1 : Int32)) + (1 : Int32))), some (jR (f6 (((jshl i_0 (1 : Int32)) + (1 : Int32))).toNatClampNeg)), some (jI (((jshl i_0 (1 : Int32)) + (1 : Int32)) + (1 : Int32)))] [] H) ∧
    (¬ i_3 ≤ (((jshl i_0 (1 : Int32)) + (1 : Int32)) + (1 : Int32)) →
      ∃ (a7 n8 : Nat) (f9 : Nat → Option Nat), r_2 = some a7 ∧ jar H a7 3 (aR n8 f9) ∧ vp_in (((jshl i_0 (1 : Int32)) + (1 : Int32)) + (1 : Int32)) n8 ∧
      ∃ (a10 : Nat) (fs11 : List JVal), r_4 = some a10 ∧ job H a10 2 fs11 ∧ /- X2_compare -/ ∃ (x13 : Int32) (H12 : JHp), jok (jprog G) 42 [jR r_4, jR (f6 (((jshl i_0 (1 : Int32)) + (1 : Int32))).toNatClampNeg), jR (f9 ((((jshl i_0 (1 : Int32)) + (1 : Int32)) + (1 : Int32))).toNatClampNeg)] H (.inl (some (jI x13))) H12 ∧
      (x13 ≤ 0 →
        jwp (jprog G) 127 Rt 61 [some (jI i_0), some (jR r_1), some (jR r_2), some (jI i_3), some (jR r_4), some (jI i_5), some (jI ((jshl i_0 (1 : Int32)) + (1 : Int32))), some (jR (f6 (((jshl i_0 (1 : Int32)) + (1 : Int32))).toNatClampNeg)), some (jI (((jshl i_0 (1 : Int32)) + (1 : Int32)) + (1 : Int32)))] [] H12) ∧
      (¬ x13 ≤ 0 →
        ∃ (a14 n15 : Nat) (f16 : Nat → Option Nat), r_2 = some a14 ∧ jar H12 a14 3 (aR n15 f16) ∧ vp_in (((jshl i_0 (1 : Int32)) + (1 : Int32)) + (1 : Int32)) n15 ∧
        jwp (jprog G) 127 Rt 61 [some (jI i_0), some (jR r_1), some (jR r_2), some (jI i_3), some (jR r_4), some (jI i_5), some (jI (((jshl i_0 (1 : Int32)) + (1 : Int32)) + (1 : Int32))), some (jR (f16 ((((jshl i_0 (1 : Int32)) + (1 : Int32)) + (1 : Int32))).toNatClampNeg)), some (jI (((jshl i_0 (1 : Int32)) + (1 : Int32)) + (1 : Int32)))] [] H12)))) :
  jwp (jprog G) 127 Rt 5 [some (jI i_0), some (jR r_1), some (jR r_2), some (jI i_3), some (jR r_4), some (jI i_5), q_6, q_7, q_8] [] H :=
  junf_wp (jprog_nf G) (stop := jmem [5, 61]) (pJ4_siftDownUsingComparator G) 4000 _ _ _ _ h
/-- java/util/PriorityQueue siftDownUsingComparator(ILjava/lang/Object;[Ljava/lang/Object;ILjava/util/Comparator;)V @61 -/
theorem gJ4_siftDownUsingComparator_61 (G : JG) {Rt : JRt} (i_0 : Int32) (r_1 : Option Nat) (r_2 : Option Nat) (i_3 : Int32) (r_4 : Option Nat) (i_5 : Int32) (i_6 : Int32) (r_7 : Option Nat) (q_8 : Option JVal) {H : JHp} (h :
  ∃ (a1 : Nat) (fs2 : List JVal), r_4 = some a1 ∧ job H a1 2 fs2 ∧ /- X2_compare -/ ∃ (x4 : Int32) (H3 : JHp), jok (jprog G) 42 [jR r_4, jR r_1, jR r_7] H (.inl (some (jI x4))) H3 ∧
  (0 < x4 →
    ∃ (a5 n6 : Nat) (f7 : Nat → Option Nat), r_2 = some a5 ∧ H3.1 a5 = some (true, jA 3 (aR n6 f7)) ∧ vp_in i_0 n6 ∧ (∀ b, r_7 = some b → jobn H3 b) ∧ 
    jwp (jprog G) 127 Rt 5 [some (jI i_6), some (jR r_1), some (jR r_2), some (jI i_3), some (jR r_4), some (jI i_5), some (jI i_6), some (jR r_7), q_8] [] (jup H3 a5 (jA 3 (aR n6 (va_up f7 (i_0).toNatClampNeg r_7))))) ∧
  (¬ 0 < x4 →
    ∃ (a8 n9 : Nat) (f10 : Nat → Option Nat), r_2 = some a8 ∧ H3.1 a8 = some (true, jA 3 (aR n9 f10)) ∧ vp_in i_0 n9 ∧ (∀ b, r_1 = some b → jobn H3 b) ∧ 
    Rt (.inl none) (jup H3 a8 (jA 3 (aR n9 (va_up f10 (i_0).toNatClampNeg r_1)))))) :
  jwp (jprog G) 127 Rt 61 [some (jI i_0), some (jR r_1), some (jR r_2), some (jI i_3), some (jR r_4), some (jI i_5), some (jI i_6), some (jR r_7), q_8] [] H :=
  junf_wp (jprog_nf G) (stop := jmem [5, 61]) (pJ4_siftDownUsingComparator G) 4000 _ _ _ _ h
/-- java/util/PriorityQueue poll()Ljava/lang/Object; @0 -/
theorem gJ4_poll_0 (G : JG) {Rt : JRt} (this : Option Nat) {H : JHp} (h :
  ∃ (a1 : Nat) (fs2 : List JVal) (r3 : Option Nat), this = some a1 ∧ job H a1 12 fs2 ∧ jn fs2 0 = some (jR r3) ∧
  ∃ (a4 n5 : Nat) (f6 : Nat → Option Nat), r3 = some a4 ∧ jar H a4 3 (aR n5 f6) ∧ vp_in (0 : Int32) n5 ∧
  ((f6 ((0 : Int32)).toNatClampNeg) = none →
    Rt (.inl (some (jR (f6 ((0 : Int32)).toNatClampNeg)))) H) ∧
  (¬ (f6 ((0 : Int32)).toNatClampNeg) = none →
    ∃ (a7 : Nat) (fs8 : List JVal) (x9 : Int32), this = some a7 ∧ job H a7 12 fs8 ∧ jn fs8 3 = some (jI x9) ∧
    ∃ (a10 : Nat) (fs11 : List JVal) (v12 : JVal), this = some a10 ∧ H.1 a10 = some (true, jO 12 fs11) ∧ jn fs11 3 = some v12 ∧
    ∃ (a13 : Nat) (fs14 : List JVal) (x15 : Int32), this = some a13 ∧ job (jup H a10 (jO 12 (jset fs11 3 (jI (x9 + (1 : Int32)))))) a13 12 fs14 ∧ jn fs14 1 = some (jI x15) ∧
    ∃ (a16 : Nat) (fs17 : List JVal) (v18 : JVal), this = some a16 ∧ (jup H a10 (jO 12 (jset fs11 3 (jI (x9 + (1 : Int32)))))).1 a16 = some (true, jO 12 fs17) ∧ jn fs17 1 = some v18 ∧
    ∃ (a19 n20 : Nat) (f21 : Nat → Option Nat), r3 = some a19 ∧ jar (jup (jup H a10 (jO 12 (jset fs11 3 (jI (x9 + (1 : Int32)))))) a16 (jO 12 (jset fs17 1 (jI (x15 - (1 : Int32)))))) a19 3 (aR n20 f21) ∧ vp_in (x15 - (1 : Int32)) n20 ∧
    ∃ (a22 n23 : Nat) (f24 : Nat → Option Nat), r3 = some a22 ∧ (jup (jup H a10 (jO 12 (jset fs11 3 (jI (x9 + (1 : Int32)))))) a16 (jO 12 (jset fs17 1 (jI (x15 - (1 : Int32)))))).1 a22 = some (true, jA 3 (aR n23 f24)) ∧ vp_in (x15 - (1 : Int32)) n23 ∧ (∀ b, none = some b → jobn (jup (jup H a10 (jO 12 (jset fs11 3 (jI (x9 + (1 : Int32)))))) a16 (jO 12 (jset fs17 1 (jI (x15 - (1 : Int32)))))) b) ∧ 
    ((x15 - (1 : Int32)) ≤ 0 →
      Rt (.inl (some (jR (f6 ((0 : Int32)).toNatClampNeg)))) (jup (jup (jup H a10 (jO 12 (jset fs11 3 (jI (x9 + (1 : Int32)))))) a16 (jO 12 (jset fs17 1 (jI (x15 - (1 : Int32)))))) a22 (jA 3 (aR n23 (va_up f24 ((x15 - (1 : Int32))).toNatClampNeg none))))) ∧
    (¬ (x15 - (1 : Int32)) ≤ 0 →
      ∃ (a25 : Nat) (fs26 : List JVal) (r27 : Option Nat), this = some a25 ∧ job (jup (jup (jup H a10 (jO 12 (jset fs11 3 (jI (x9 + (1 : Int32)))))) a16 (jO 12 (jset fs17 1 (jI (x15 - (1 : Int32)))))) a22 (jA 3 (aR n23 (va_up f24 ((x15 - (1 : Int32))).toNatClampNeg none)))) a25 12 fs26 ∧ jn fs26 2 = some (jR r27) ∧
      ((¬ r27 = none) →
        /- J4_siftDownUsingComparator -/ ∃ H28 : JHp, jok (jprog G) 127 [jI 0, jR (f21 ((x15 - (1 : Int32))).toNatClampNeg), jR r3, jI (x15 - (1 : Int32)), jR r27] (jup (jup (jup H a10 (jO 12 (jset fs11 3 (jI (x9 + (1 : Int32)))))) a16 (jO 12 (jset fs17 1 (jI (x15 - (1 : Int32)))))) a22 (jA 3 (aR n23 (va_up f24 ((x15 - (1 : Int32))).toNatClampNeg none)))) (.inl none) H28 ∧
        Rt (.inl (some (jR (f6 ((0 : Int32)).toNatClampNeg)))) H28) ∧
      (¬ (¬ r27 = none) →
        False)))) :
  jwp (jprog G) 128 Rt 0 [some (jR this), none, none, none, none, none] [] H :=
  junf_wp (jprog_nf G) (stop := jmem []) (pJ4_poll G) 4000 _ _ _ _ h
/-- jdk/internal/util/Preconditions checkIndex(IILjava/util/function/BiFunction;)I @0 -/
theorem gJ14_checkIndex_0 (G : JG) {Rt : JRt} (i_0 : Int32) (i_1 : Int32) (r_2 : Option Nat) {H : JHp} (h :
  (i_0 < 0 →
    False) ∧
  (¬ i_0 < 0 →
    (i_0 < i_1 →
      Rt (.inl (some (jI i_0))) H) ∧
    (¬ i_0 < i_1 →
      False))) :
  jwp (jprog G) 129 Rt 0 [some (jI i_0), some (jI i_1), some (jR r_2)] [] H :=
  junf_wp (jprog_nf G) (stop := jmem []) (pJ14_checkIndex G) 4000 _ _ _ _ h
/-- java/util/Objects checkIndex(II)I @0 -/
theorem gJ13_checkIndex_0 (G : JG) {Rt : JRt} (i_0 : Int32) (i_1 : Int32) {H : JHp} (h :
  /- J14_checkIndex -/ ∃ (x2 : Int32) (H1 : JHp), jok (jprog G) 129 [jI i_0, jI i_1, jR none] H (.inl (some (jI x2))) H1 ∧
  Rt (.inl (some (jI x2))) H1) :
  jwp (jprog G) 130 Rt 0 [some (jI i_0), some (jI i_1)] [] H :=
  junf_wp (jprog_nf G) (stop := jmem []) (pJ13_checkIndex G) 4000 _ _ _ _ h
/-- java/util/ArrayList elementData(I)Ljava/lang/Object; @0 -/
theorem gJ2_elementData_0 (G : JG) {Rt : JRt} (this : Option Nat) (i_1 : Int32) {H : JHp} (h :
  ∃ (a1 : Nat) (fs2 : List JVal) (r3 : Option Nat), this = some a1 ∧ job H a1 11 fs2 ∧ jn fs2 1 = some (jR r3) ∧
  ∃ (a4 n5 : Nat) (f6 : Nat → Option Nat), r3 = some a4 ∧ jar H a4 3 (aR n5 f6) ∧ vp_in i_1 n5 ∧
  Rt (.inl (some (jR (f6 (i_1).toNatClampNeg)))) H) :
  jwp (jprog G) 131 Rt 0 [some (jR this), some (jI i_1)] [] H :=
  junf_wp (jprog_nf G) (stop := jmem []) (pJ2_elementData G) 4000 _ _ _ _ h
/-- java/util/ArrayList get(I)Ljava/lang/Object; @0 -/
theorem gJ2_get_0 (G : JG) {Rt : JRt} (this : Option Nat) (i_1 : Int32) {H : JHp} (h :
  ∃ (a1 : Nat) (fs2 : List JVal) (x3 : Int32), this = some a1 ∧ job H a1 11 fs2 ∧ jn fs2 2 = some (jI x3) ∧
  /- J13_checkIndex -/ ∃ (x5 : Int32) (H4 : JHp), jok (jprog G) 130 [jI i_1, jI x3] H (.inl (some (jI x5))) H4 ∧
  ∃ (a6 : Nat) (fs7 : List JVal), this = some a6 ∧ job H4 a6 11 fs7 ∧ /- J2_elementData -/ ∃ (r9 : Option Nat) (H8 : JHp), jok (jprog G) 131 [jR this, jI i_1] H4 (.inl (some (jR r9))) H8 ∧
  Rt (.inl (some (jR r9))) H8) :
  jwp (jprog G) 132 Rt 0 [some (jR this), some (jI i_1)] [] H :=
  junf_wp (jprog_nf G) (stop := jmem []) (pJ2_get G) 4000 _ _ _ _ h
/-- java/util/BitSet get(I)Z @0 -/
theorem gJ32_get_0 (G : JG) {Rt : JRt} (this : Option Nat) (i_1 : Int32) {H : JHp} (h :
  (0 ≤ i_1 →
    ∃ (a1 : Nat) (fs2 : List JVal), this = some a1 ∧ job H a1 24 fs2 ∧ /- J32_checkInvariants -/ ∃ H3 : JHp, jok (jprog G) 75 [jR this] H (.inl none) H3 ∧
    /- J32_wordIndex -/ ∃ (x5 : Int32) (H4 : JHp), jok (jprog G) 62 [jI i_1] H3 (.inl (some (jI x5))) H4 ∧
    ∃ (a6 : Nat) (fs7 : List JVal) (x8 : Int32), this = some a6 ∧ job H4 a6 24 fs7 ∧ jn fs7 1 = some (jI x8) ∧
    (x8 ≤ x5 →
      jbool (0 : Int32) ∧ Rt (.inl (some (jI 0))) H4) ∧
    (¬ x8 ≤ x5 →
      ∃ (a9 : Nat) (fs10 : List JVal) (r11 : Option Nat), this = some a9 ∧ job H4 a9 24 fs10 ∧ jn fs10 0 = some (jR r11) ∧
      ∃ (a12 n13 : Nat) (f14 : Nat → Int64), r11 = some a12 ∧ jar H4 a12 1 (aL n13 f14) ∧ vp_in x5 n13 ∧
      ((lg_cmp ((f14 (x5).toNatClampNeg) &&& (jlshl (1 : Int64) i_1)) (0 : Int64)) = 0 →
        jbool (0 : Int32) ∧ Rt (.inl (some (jI 0))) H4) ∧
      (¬ (lg_cmp ((f14 (x5).toNatClampNeg) &&& (jlshl (1 : Int64) i_1)) (0 : Int64)) = 0 →
        jbool (1 : Int32) ∧ Rt (.inl (some (jI 1))) H4))) ∧
  (¬ 0 ≤ i_1 →
    False)) :
  jwp (jprog G) 134 Rt 0 [some (jR this), some (jI i_1), none] [] H :=
  junf_wp (jprog_nf G) (stop := jmem []) (pJ32_get G) 4000 _ _ _ _ h
/-- java/util/ArrayDeque addFirst(Ljava/lang/Object;)V @0 -/
theorem gJ7_addFirst_0 (G : JG) {Rt : JRt} (this : Option Nat) (r_1 : Option Nat) {H : JHp} (h :
  ((¬ r_1 = none) →
    ∃ (a1 : Nat) (fs2 : List JVal) (r3 : Option Nat), this = some a1 ∧ job H a1 14 fs2 ∧ jn fs2 0 = some (jR r3) ∧
    ∃ (a4 : Nat) (fs5 : List JVal) (x6 : Int32), this = some a4 ∧ job H a4 14 fs5 ∧ jn fs5 1 = some (jI x6) ∧
    ∃ (a7 : Nat) (A8 : vp_A), r3 = some a7 ∧ jar H a7 3 A8 ∧
    /- J7_dec -/ ∃ (x10 : Int32) (H9 : JHp), jok (jprog G) 110 [jI x6, jI (nI A8.1)] H (.inl (some (jI x10))) H9 ∧
    ∃ (a11 : Nat) (fs12 : List JVal) (v13 : JVal), this = some a11 ∧ H9.1 a11 = some (true, jO 14 fs12) ∧ jn fs12 1 = some v13 ∧
    ∃ (a14 n15 : Nat) (f16 : Nat → Option Nat), r3 = some a14 ∧ (jup H9 a11 (jO 14 (jset fs12 1 (jI x10)))).1 a14 = some (true, jA 3 (aR n15 f16)) ∧ vp_in x10 n15 ∧ (∀ b, r_1 = some b → jobn (jup H9 a11 (jO 14 (jset fs12 1 (jI x10)))) b) ∧ 
    ∃ (a17 : Nat) (fs18 : List JVal) (x19 : Int32), this = some a17 ∧ job (jup (jup H9 a11 (jO 14 (jset fs12 1 (jI x10)))) a14 (jA 3 (aR n15 (va_up f16 (x10).toNatClampNeg r_1)))) a17 14 fs18 ∧ jn fs18 1 = some (jI x19) ∧
    ∃ (a20 : Nat) (fs21 : List JVal) (x22 : Int32), this = some a20 ∧ job (jup (jup H9 a11 (jO 14 (jset fs12 1 (jI x10)))) a14 (jA 3 (aR n15 (va_up f16 (x10).toNatClampNeg r_1)))) a20 14 fs21 ∧ jn fs21 2 = some (jI x22) ∧
    (¬ x19 = x22 →
      Rt (.inl none) (jup (jup H9 a11 (jO 14 (jset fs12 1 (jI x10)))) a14 (jA 3 (aR n15 (va_up f16 (x10).toNatClampNeg r_1))))) ∧
    (¬ ¬ x19 = x22 →
      ∃ (a23 : Nat) (fs24 : List JVal), this = some a23 ∧ job (jup (jup H9 a11 (jO 14 (jset fs12 1 (jI x10)))) a14 (jA 3 (aR n15 (va_up f16 (x10).toNatClampNeg r_1)))) a23 14 fs24 ∧ /- J7_grow -/ ∃ H25 : JHp, jok (jprog G) 99 [jR this, jI 1] (jup (jup H9 a11 (jO 14 (jset fs12 1 (jI x10)))) a14 (jA 3 (aR n15 (va_up f16 (x10).toNatClampNeg r_1)))) (.inl none) H25 ∧
      Rt (.inl none) H25)) ∧
  (¬ (¬ r_1 = none) →
    False)) :
  jwp (jprog G) 138 Rt 0 [some (jR this), some (jR r_1), none] [] H :=
  junf_wp (jprog_nf G) (stop := jmem []) (pJ7_addFirst G) 4000 _ _ _ _ h
/-- java/util/BitSet expandTo(I)V @0 -/
theorem gJ32_expandTo_0 (G : JG) {Rt : JRt} (this : Option Nat) (i_1 : Int32) {H : JHp} (h :
  ∃ (a1 : Nat) (fs2 : List JVal) (x3 : Int32), this = some a1 ∧ job H a1 24 fs2 ∧ jn fs2 1 = some (jI x3) ∧
  ((i_1 + (1 : Int32)) ≤ x3 →
    Rt (.inl none) H) ∧
  (¬ (i_1 + (1 : Int32)) ≤ x3 →
    ∃ (a4 : Nat) (fs5 : List JVal), this = some a4 ∧ job H a4 24 fs5 ∧ /- J32_ensureCapacity -/ ∃ H6 : JHp, jok (jprog G) 74 [jR this, jI (i_1 + (1 : Int32))] H (.inl none) H6 ∧
    ∃ (a7 : Nat) (fs8 : List JVal) (v9 : JVal), this = some a7 ∧ H6.1 a7 = some (true, jO 24 fs8) ∧ jn fs8 1 = some v9 ∧
    Rt (.inl none) (jup H6 a7 (jO 24 (jset fs8 1 (jI (i_1 + (1 : Int32)))))))) :
  jwp (jprog G) 139 Rt 0 [some (jR this), some (jI i_1), none] [] H :=
  junf_wp (jprog_nf G) (stop := jmem []) (pJ32_expandTo G) 4000 _ _ _ _ h
/-- java/util/BitSet set(I)V @0 -/
theorem gJ32_set_0 (G : JG) {Rt : JRt} (this : Option Nat) (i_1 : Int32) {H : JHp} (h :
  (0 ≤ i_1 →
    /- J32_wordIndex -/ ∃ (x2 : Int32) (H1 : JHp), jok (jprog G) 62 [jI i_1] H (.inl (some (jI x2))) H1 ∧
    ∃ (a3 : Nat) (fs4 : List JVal), this = some a3 ∧ job H1 a3 24 fs4 ∧ /- J32_expandTo -/ ∃ H5 : JHp, jok (jprog G) 139 [jR this, jI x2] H1 (.inl none) H5 ∧
    ∃ (a6 : Nat) (fs7 : List JVal) (r8 : Option Nat), this = some a6 ∧ job H5 a6 24 fs7 ∧ jn fs7 0 = some (jR r8) ∧
    ∃ (a9 n10 : Nat) (f11 : Nat → Int64), r8 = some a9 ∧ jar H5 a9 1 (aL n10 f11) ∧ vp_in x2 n10 ∧
    ∃ (a12 n13 : Nat) (f14 : Nat → Int64), r8 = some a12 ∧ H5.1 a12 = some (true, jA 1 (aL n13 f14)) ∧ vp_in x2 n13 ∧ 
    ∃ (a15 : Nat) (fs16 : List JVal), this = some a15 ∧ job (jup H5 a12 (jA 1 (aL n13 (vp_updL f14 (x2).toNatClampNeg ((f11 (x2).toNatClampNeg) ||| (jlshl (1 : Int64) i_1)))))) a15 24 fs16 ∧ /- J32_checkInvariants -/ ∃ H17 : JHp, jok (jprog G) 75 [jR this] (jup H5 a12 (jA 1 (aL n13 (vp_updL f14 (x2).toNatClampNeg ((f11 (x2).toNatClampNeg) ||| (jlshl (1 : Int64) i_1)))))) (.inl none) H17 ∧
    Rt (.inl none) H17) ∧
  (¬ 0 ≤ i_1 →
    False)) :
  jwp (jprog G) 140 Rt 0 [some (jR this), some (jI i_1), none] [] H :=
  junf_wp (jprog_nf G) (stop := jmem []) (pJ32_set G) 4000 _ _ _ _ h
/-- java/util/AbstractCollection <init>()V @0 -/
theorem gJ0_init__J36_0 (G : JG) {Rt : JRt} (this : Option Nat) {H : JHp} (h :
  ∃ a1 : Nat, this = some a1 ∧
  Rt (.inl none) H) :
  jwp (jprog G) 144 Rt 0 [some (jR this)] [] H :=
  junf_wp (jprog_nf G) (stop := jmem []) (pJ0_init__J36 G) 4000 _ _ _ _ h
/-- java/util/AbstractList <init>()V @0 -/
theorem gJ1_init__J36_0 (G : JG) {Rt : JRt} (this : Option Nat) {H : JHp} (h :
  ∃ a1 : Nat, this = some a1 ∧ /- J0_init__J36 -/ ∃ H2 : JHp, jok (jprog G) 144 [jR this] H (.inl none) H2 ∧
  ∃ (a3 : Nat) (fs4 : List JVal) (v5 : JVal), this = some a3 ∧ H2.1 a3 = some (true, jO 27 fs4) ∧ jn fs4 0 = some v5 ∧
  Rt (.inl none) (jup H2 a3 (jO 27 (jset fs4 0 (jI 0))))) :
  jwp (jprog G) 145 Rt 0 [some (jR this)] [] H :=
  junf_wp (jprog_nf G) (stop := jmem []) (pJ1_init__J36 G) 4000 _ _ _ _ h
/-- java/util/AbstractSequentialList <init>()V @0 -/
theorem gJ35_init__J36_0 (G : JG) {Rt : JRt} (this : Option Nat) {H : JHp} (h :
  ∃ a1 : Nat, this = some a1 ∧ /- J1_init__J36 -/ ∃ H2 : JHp, jok (jprog G) 145 [jR this] H (.inl none) H2 ∧
  Rt (.inl none) H2) :
  jwp (jprog G) 146 Rt 0 [some (jR this)] [] H :=
  junf_wp (jprog_nf G) (stop := jmem []) (pJ35_init__J36 G) 4000 _ _ _ _ h
/-- java/util/LinkedList <init>()V @0 -/
theorem gJ36_init_0 (G : JG) {Rt : JRt} (this : Option Nat) {H : JHp} (h :
  ∃ a1 : Nat, this = some a1 ∧ /- J35_init__J36 -/ ∃ H2 : JHp, jok (jprog G) 146 [jR this] H (.inl none) H2 ∧
  ∃ (a3 : Nat) (fs4 : List JVal) (v5 : JVal), this = some a3 ∧ H2.1 a3 = some (true, jO 27 fs4) ∧ jn fs4 1 = some v5 ∧
  Rt (.inl none) (jup H2 a3 (jO 27 (jset fs4 1 (jI 0))))) :
  jwp (jprog G) 147 Rt 0 [some (jR this)] [] H :=
  junf_wp (jprog_nf G) (stop := jmem []) (pJ36_init G) 4000 _ _ _ _ h
/-- java/util/LinkedList$Node <init>(Ljava/util/LinkedList$Node;Ljava/lang/Object;Ljava/util/LinkedList$Node;)V @0 -/
theorem gJ37_init_0 (G : JG) {Rt : JRt} (this : Option Nat) (r_1 : Option Nat) (r_2 : Option Nat) (r_3 : Option Nat) {H : JHp} (h :
  ∃ a1 : Nat, this = some a1 ∧
  ∃ (a2 : Nat) (fs3 : List JVal) (v4 : JVal), this = some a2 ∧ H.1 a2 = some (true, jO 28 fs3) ∧ jn fs3 0 = some v4 ∧
  ∃ (a5 : Nat) (fs6 : List JVal) (v7 : JVal), this = some a5 ∧ (jup H a2 (jO 28 (jset fs3 0 (jR r_2)))).1 a5 = some (true, jO 28 fs6) ∧ jn fs6 1 = some v7 ∧
  ∃ (a8 : Nat) (fs9 : List JVal) (v10 : JVal), this = some a8 ∧ (jup (jup H a2 (jO 28 (jset fs3 0 (jR r_2)))) a5 (jO 28 (jset fs6 1 (jR r_3)))).1 a8 = some (true, jO 28 fs9) ∧ jn fs9 2 = some v10 ∧
  Rt (.inl none) (jup (jup (jup H a2 (jO 28 (jset fs3 0 (jR r_2)))) a5 (jO 28 (jset fs6 1 (jR r_3)))) a8 (jO 28 (jset fs9 2 (jR r_1))))) :
  jwp (jprog G) 148 Rt 0 [some (jR this), some (jR r_1), some (jR r_2), some (jR r_3)] [] H :=
  junf_wp (jprog_nf G) (stop := jmem []) (pJ37_init G) 4000 _ _ _ _ h
/-- java/util/LinkedList linkLast(Ljava/lang/Object;)V @0 -/
theorem gJ36_linkLast_0 (G : JG) {Rt : JRt} (this : Option Nat) (r_1 : Option Nat) {H : JHp} (h :
  ∃ (a1 : Nat) (fs2 : List JVal) (r3 : Option Nat), this = some a1 ∧ job H a1 27 fs2 ∧ jn fs2 3 = some (jR r3) ∧
  ∃ a4 : Nat, (some H.2.1) = some a4 ∧ /- J37_init -/ ∃ H5 : JHp, jok (jprog G) 148 [jR (some H.2.1), jR r3, jR r_1, jR none] (jnew H (jO 28 [jR none, jR none, jR none]) 3) (.inl none) H5 ∧
  ∃ (a6 : Nat) (fs7 : List JVal) (v8 : JVal), this = some a6 ∧ H5.1 a6 = some (true, jO 27 fs7) ∧ jn fs7 3 = some v8 ∧
  ((¬ r3 = none) →
    ∃ (a9 : Nat) (fs10 : List JVal) (v11 : JVal), r3 = some a9 ∧ (jup H5 a6 (jO 27 (jset fs7 3 (jR (some H.2.1))))).1 a9 = some (true, jO 28 fs10) ∧ jn fs10 1 = some v11 ∧
    ∃ (a12 : Nat) (fs13 : List JVal) (x14 : Int32), this = some a12 ∧ job (jup (jup H5 a6 (jO 27 (jset fs7 3 (jR (some H.2.1))))) a9 (jO 28 (jset fs10 1 (jR (some H.2.1))))) a12 27 fs13 ∧ jn fs13 1 = some (jI x14) ∧
    ∃ (a15 : Nat) (fs16 : List JVal) (v17 : JVal), this = some a15 ∧ (jup (jup H5 a6 (jO 27 (jset fs7 3 (jR (some H.2.1))))) a9 (jO 28 (jset fs10 1 (jR (some H.2.1))))).1 a15 = some (true, jO 27 fs16) ∧ jn fs16 1 = some v17 ∧
    ∃ (a18 : Nat) (fs19 : List JVal) (x20 : Int32), this = some a18 ∧ job (jup (jup (jup H5 a6 (jO 27 (jset fs7 3 (jR (some H.2.1))))) a9 (jO 28 (jset fs10 1 (jR (some H.2.1))))) a15 (jO 27 (jset fs16 1 (jI (x14 + (1 : Int32)))))) a18 27 fs19 ∧ jn fs19 0 = some (jI x20) ∧
    ∃ (a21 : Nat) (fs22 : List JVal) (v23 : JVal), this = some a21 ∧ (jup (jup (jup H5 a6 (jO 27 (jset fs7 3 (jR (some H.2.1))))) a9 (jO 28 (jset fs10 1 (jR (some H.2.1))))) a15 (jO 27 (jset fs16 1 (jI (x14 + (1 : Int32)))))).1 a21 = some (true, jO 27 fs22) ∧ jn fs22 0 = some v23 ∧
    Rt (.inl none) (jup (jup (jup (jup H5 a6 (jO 27 (jset fs7 3 (jR (some H.2.1))))) a9 (jO 28 (jset fs10 1 (jR (some H.2.1))))) a15 (jO 27 (jset fs16 1 (jI (x14 + (1 : Int32)))))) a21 (jO 27 (jset fs22 0 (jI (x20 + (1 : Int32))))))) ∧
  (¬ (¬ r3 = none) →
    ∃ (a24 : Nat) (fs25 : List JVal) (v26 : JVal), this = some a24 ∧ (jup H5 a6 (jO 27 (jset fs7 3 (jR (some H.2.1))))).1 a24 = some (true, jO 27 fs25) ∧ jn fs25 2 = some v26 ∧
    ∃ (a27 : Nat) (fs28 : List JVal) (x29 : Int32), this = some a27 ∧ job (jup (jup H5 a6 (jO 27 (jset fs7 3 (jR (some H.2.1))))) a24 (jO 27 (jset fs25 2 (jR (some H.2.1))))) a27 27 fs28 ∧ jn fs28 1 = some (jI x29) ∧
    ∃ (a30 : Nat) (fs31 : List JVal) (v32 : JVal), this = some a30 ∧ (jup (jup H5 a6 (jO 27 (jset fs7 3 (jR (some H.2.1))))) a24 (jO 27 (jset fs25 2 (jR (some H.2.1))))).1 a30 = some (true, jO 27 fs31) ∧ jn fs31 1 = some v32 ∧
    ∃ (a33 : Nat) (fs34 : List JVal) (x35 : Int32), this = some a33 ∧ job (jup (jup (jup H5 a6 (jO 27 (jset fs7 3 (jR (some H.2.1))))) a24 (jO 27 (jset fs25 2 (jR (some H.2.1))))) a30 (jO 27 (jset fs31 1 (jI (x29 + (1 : Int32)))))) a33 27 fs34 ∧ jn fs34 0 = some (jI x35) ∧
    ∃ (a36 : Nat) (fs37 : List JVal) (v38 : JVal), this = some a36 ∧ (jup (jup (jup H5 a6 (jO 27 (jset fs7 3 (jR (some H.2.1))))) a24 (jO 27 (jset fs25 2 (jR (some H.2.1))))) a30 (jO 27 (jset fs31 1 (jI (x29 + (1 : Int32)))))).1 a36 = some (true, jO 27 fs37) ∧ jn fs37 0 = some v38 ∧
    Rt (.inl none) (jup (jup (jup (jup H5 a6 (jO 27 (jset fs7 3 (jR (some H.2.1))))) a24 (jO 27 (jset fs25 2 (jR (some H.2.1))))) a30 (jO 27 (jset fs31 1 (jI (x29 + (1 : Int32)))))) a36 (jO 27 (jset fs37 0 (jI (x35 + (1 : Int32)))))))) :
  jwp (jprog G) 149 Rt 0 [some (jR this), some (jR r_1), none, none] [] H :=
  junf_wp (jprog_nf G) (stop := jmem []) (pJ36_linkLast G) 4000 _ _ _ _ h
/-- java/util/LinkedList addLast(Ljava/lang/Object;)V @0 -/
theorem gJ36_addLast_0 (G : JG) {Rt : JRt} (this : Option Nat) (r_1 : Option Nat) {H : JHp} (h :
  ∃ (a1 : Nat) (fs2 : List JVal), this = some a1 ∧ job H a1 27 fs2 ∧ /- J36_linkLast -/ ∃ H3 : JHp, jok (jprog G) 149 [jR this, jR r_1] H (.inl none) H3 ∧
  Rt (.inl none) H3) :
  jwp (jprog G) 150 Rt 0 [some (jR this), some (jR r_1)] [] H :=
  junf_wp (jprog_nf G) (stop := jmem []) (pJ36_addLast G) 4000 _ _ _ _ h
/-- java/util/LinkedList isPositionIndex(I)Z @0 -/
theorem gJ36_isPositionIndex_0 (G : JG) {Rt : JRt} (this : Option Nat) (i_1 : Int32) {H : JHp} (h :
  (i_1 < 0 →
    jbool (0 : Int32) ∧ Rt (.inl (some (jI 0))) H) ∧
  (¬ i_1 < 0 →
    ∃ (a1 : Nat) (fs2 : List JVal) (x3 : Int32), this = some a1 ∧ job H a1 27 fs2 ∧ jn fs2 1 = some (jI x3) ∧
    (x3 < i_1 →
      jbool (0 : Int32) ∧ Rt (.inl (some (jI 0))) H) ∧
    (¬ x3 < i_1 →
      jbool (1 : Int32) ∧ Rt (.inl (some (jI 1))) H))) :
  jwp (jprog G) 152 Rt 0 [some (jR this), some (jI i_1)] [] H :=
  junf_wp (jprog_nf G) (stop := jmem []) (pJ36_isPositionIndex G) 4000 _ _ _ _ h
/-- java/util/LinkedList checkPositionIndex(I)V @0 -/
theorem gJ36_checkPositionIndex_0 (G : JG) {Rt : JRt} (this : Option Nat) (i_1 : Int32) {H : JHp} (h :
  ∃ (a1 : Nat) (fs2 : List JVal), this = some a1 ∧ job H a1 27 fs2 ∧ /- J36_isPositionIndex -/ ∃ (x4 : Int32) (H3 : JHp), jok (jprog G) 152 [jR this, jI i_1] H (.inl (some (jI x4))) H3 ∧
  (¬ x4 = 0 →
    Rt (.inl none) H3) ∧
  (¬ ¬ x4 = 0 →
    False)) :
  jwp (jprog G) 153 Rt 0 [some (jR this), some (jI i_1)] [] H :=
  junf_wp (jprog_nf G) (stop := jmem []) (pJ36_checkPositionIndex G) 4000 _ _ _ _ h
/-- java/util/LinkedList node(I)Ljava/util/LinkedList$Node; @0 -/
theorem gJ36_node_0 (G : JG) {Rt : JRt} (this : Option Nat) (i_1 : Int32) {H : JHp} (h :
  ∃ (a1 : Nat) (fs2 : List JVal) (x3 : Int32), this = some a1 ∧ job H a1 27 fs2 ∧ jn fs2 1 = some (jI x3) ∧
  ((jshr x3 (1 : Int32)) ≤ i_1 →
    ∃ (a4 : Nat) (fs5 : List JVal) (r6 : Option Nat), this = some a4 ∧ job H a4 27 fs5 ∧ jn fs5 3 = some (jR r6) ∧
    ∃ (a7 : Nat) (fs8 : List JVal) (x9 : Int32), this = some a7 ∧ job H a7 27 fs8 ∧ jn fs8 1 = some (jI x9) ∧
    jwp (jprog G) 154 Rt 47 [some (jR this), some (jI i_1), some (jR r6), some (jI (x9 - (1 : Int32)))] [] H) ∧
  (¬ (jshr x3 (1 : Int32)) ≤ i_1 →
    ∃ (a10 : Nat) (fs11 : List JVal) (r12 : Option Nat), this = some a10 ∧ job H a10 27 fs11 ∧ jn fs11 2 = some (jR r12) ∧
    jwp (jprog G) 154 Rt 17 [some (jR this), some (jI i_1), some (jR r12), some (jI 0)] [] H)) :
  jwp (jprog G) 154 Rt 0 [some (jR this), some (jI i_1), none, none] [] H :=
  junf_wp (jprog_nf G) (stop := jmem [17, 47]) (pJ36_node G) 4000 _ _ _ _ h
/-- java/util/LinkedList node(I)Ljava/util/LinkedList$Node; @17 -/
theorem gJ36_node_17 (G : JG) {Rt : JRt} (q_0 : Option JVal) (i_1 : Int32) (r_2 : Option Nat) (i_3 : Int32) {H : JHp} (h :
  (i_1 ≤ i_3 →
    Rt (.inl (some (jR r_2))) H) ∧
  (¬ i_1 ≤ i_3 →
    ∃ (a1 : Nat) (fs2 : List JVal) (r3 : Option Nat), r_2 = some a1 ∧ job H a1 28 fs2 ∧ jn fs2 1 = some (jR r3) ∧
    jwp (jprog G) 154 Rt 17 [q_0, some (jI i_1), some (jR r3), some (jI (i_3 + 1))] [] H)) :
  jwp (jprog G) 154 Rt 17 [q_0, some (jI i_1), some (jR r_2), some (jI i_3)] [] H :=
  junf_wp (jprog_nf G) (stop := jmem [17, 47]) (pJ36_node G) 4000 _ _ _ _ h
/-- java/util/LinkedList node(I)Ljava/util/LinkedList$Node; @47 -/
theorem gJ36_node_47 (G : JG) {Rt : JRt} (q_0 : Option JVal) (i_1 : Int32) (r_2 : Option Nat) (i_3 : Int32) {H : JHp} (h :
  (i_3 ≤ i_1 →
    Rt (.inl (some (jR r_2))) H) ∧
  (¬ i_3 ≤ i_1 →
    ∃ (a1 : Nat) (fs2 : List JVal) (r3 : Option Nat), r_2 = some a1 ∧ job H a1 28 fs2 ∧ jn fs2 2 = some (jR r3) ∧
    jwp (jprog G) 154 Rt 47 [q_0, some (jI i_1), some (jR r3), some (jI (i_3 + (-1)))] [] H)) :
  jwp (jprog G) 154 Rt 47 [q_0, some (jI i_1), some (jR r_2), some (jI i_3)] [] H :=
  junf_wp (jprog_nf G) (stop := jmem [17, 47]) (pJ36_node G) 4000 _ _ _ _ h
/-- java/util/LinkedList$ListItr <init>(Ljava/util/LinkedList;I)V @0 -/
theorem gJ41_init_0 (G : JG) {Rt : JRt} (this : Option Nat) (r_1 : Option Nat) (i_2 : Int32) {H : JHp} (h :
  ∃ (a1 : Nat) (fs2 : List JVal) (v3 : JVal), this = some a1 ∧ H.1 a1 = some (true, jO 31 fs2) ∧ jn fs2 4 = some v3 ∧
  ∃ a4 : Nat, this = some a4 ∧
  ∃ (a5 : Nat) (fs6 : List JVal) (r7 : Option Nat), this = some a5 ∧ job (jup H a1 (jO 31 (jset fs2 4 (jR r_1)))) a5 31 fs6 ∧ jn fs6 4 = some (jR r7) ∧
  ∃ (a8 : Nat) (fs9 : List JVal) (x10 : Int32), r7 = some a8 ∧ job (jup H a1 (jO 31 (jset fs2 4 (jR r_1)))) a8 27 fs9 ∧ jn fs9 0 = some (jI x10) ∧
  ∃ (a11 : Nat) (fs12 : List JVal) (v13 : JVal), this = some a11 ∧ (jup H a1 (jO 31 (jset fs2 4 (jR r_1)))).1 a11 = some (true, jO 31 fs12) ∧ jn fs12 3 = some v13 ∧
  ∃ (a14 : Nat) (fs15 : List JVal) (x16 : Int32), r_1 = some a14 ∧ job (jup (jup H a1 (jO 31 (jset fs2 4 (jR r_1)))) a11 (jO 31 (jset fs12 3 (jI x10)))) a14 27 fs15 ∧ jn fs15 1 = some (jI x16) ∧
  (¬ i_2 = x16 →
    ∃ (a17 : Nat) (fs18 : List JVal), r_1 = some a17 ∧ job (jup (jup H a1 (jO 31 (jset fs2 4 (jR r_1)))) a11 (jO 31 (jset fs12 3 (jI x10)))) a17 27 fs18 ∧ /- J36_node -/ ∃ (r20 : Option Nat) (H19 : JHp), jok (jprog G) 154 [jR r_1, jI i_2] (jup (jup H a1 (jO 31 (jset fs2 4 (jR r_1)))) a11 (jO 31 (jset fs12 3 (jI x10)))) (.inl (some (jR r20))) H19 ∧
    ∃ (a21 : Nat) (fs22 : List JVal) (v23 : JVal), this = some a21 ∧ H19.1 a21 = some (true, jO 31 fs22) ∧ jn fs22 1 = some v23 ∧
    ∃ (a24 : Nat) (fs25 : List JVal) (v26 : JVal), this = some a24 ∧ (jup H19 a21 (jO 31 (jset fs22 1 (jR r20)))).1 a24 = some (true, jO 31 fs25) ∧ jn fs25 2 = some v26 ∧
    Rt (.inl none) (jup (jup H19 a21 (jO 31 (jset fs22 1 (jR r20)))) a24 (jO 31 (jset fs25 2 (jI i_2))))) ∧
  (¬ ¬ i_2 = x16 →
    ∃ (a27 : Nat) (fs28 : List JVal) (v29 : JVal), this = some a27 ∧ (jup (jup H a1 (jO 31 (jset fs2 4 (jR r_1)))) a11 (jO 31 (jset fs12 3 (jI x10)))).1 a27 = some (true, jO 31 fs28) ∧ jn fs28 1 = some v29 ∧
    ∃ (a30 : Nat) (fs31 : List JVal) (v32 : JVal), this = some a30 ∧ (jup (jup (jup H a1 (jO 31 (jset fs2 4 (jR r_1)))) a11 (jO 31 (jset fs12 3 (jI x10)))) a27 (jO 31 (jset fs28 1 (jR none)))).1 a30 = some (true, jO 31 fs31) ∧ jn fs31 2 = some v32 ∧
    Rt (.inl none) (jup (jup (jup (jup H a1 (jO 31 (jset fs2 4 (jR r_1)))) a11 (jO 31 (jset fs12 3 (jI x10)))) a27 (jO 31 (jset fs28 1 (jR none)))) a30 (jO 31 (jset fs31 2 (jI i_2)))))) :
  jwp (jprog G) 155 Rt 0 [some (jR this), some (jR r_1), some (jI i_2)] [] H :=
  junf_wp (jprog_nf G) (stop := jmem []) (pJ41_init G) 4000 _ _ _ _ h
/-- java/util/LinkedList listIterator(I)Ljava/util/ListIterator; @0 -/
theorem gJ36_listIterator_0 (G : JG) {Rt : JRt} (this : Option Nat) (i_1 : Int32) {H : JHp} (h :
  ∃ (a1 : Nat) (fs2 : List JVal), this = some a1 ∧ job H a1 27 fs2 ∧ /- J36_checkPositionIndex -/ ∃ H3 : JHp, jok (jprog G) 153 [jR this, jI i_1] H (.inl none) H3 ∧
  ∃ a4 : Nat, (some H3.2.1) = some a4 ∧ /- J41_init -/ ∃ H5 : JHp, jok (jprog G) 155 [jR (some H3.2.1), jR this, jI i_1] (jnew H3 (jO 31 [jR none, jR none, jI 0, jI 0, jR none]) 5) (.inl none) H5 ∧
  Rt (.inl (some (jR (some H3.2.1)))) H5) :
  jwp (jprog G) 156 Rt 0 [some (jR this), some (jI i_1)] [] H :=
  junf_wp (jprog_nf G) (stop := jmem []) (pJ36_listIterator G) 4000 _ _ _ _ h
/-- java/util/AbstractList listIterator()Ljava/util/ListIterator; @0 -/
theorem gJ1_listIterator__J36_0 (G : JG) {Rt : JRt} (this : Option Nat) {H : JHp} (h :
  ∃ (a1 : Nat) (fs2 : List JVal), this = some a1 ∧ job H a1 27 fs2 ∧ /- J36_listIterator -/ ∃ (r4 : Option Nat) (H3 : JHp), jok (jprog G) 156 [jR this, jI 0] H (.inl (some (jR r4))) H3 ∧
  Rt (.inl (some (jR r4))) H3) :
  jwp (jprog G) 157 Rt 0 [some (jR this)] [] H :=
  junf_wp (jprog_nf G) (stop := jmem []) (pJ1_listIterator__J36 G) 4000 _ _ _ _ h
/-- java/util/AbstractSequentialList iterator()Ljava/util/Iterator; @0 -/
theorem gJ35_iterator__J36_0 (G : JG) {Rt : JRt} (this : Option Nat) {H : JHp} (h :
  ∃ (a1 : Nat) (fs2 : List JVal), this = some a1 ∧ job H a1 27 fs2 ∧ /- J1_listIterator__J36 -/ ∃ (r4 : Option Nat) (H3 : JHp), jok (jprog G) 157 [jR this] H (.inl (some (jR r4))) H3 ∧
  Rt (.inl (some (jR r4))) H3) :
  jwp (jprog G) 158 Rt 0 [some (jR this)] [] H :=
  junf_wp (jprog_nf G) (stop := jmem []) (pJ35_iterator__J36 G) 4000 _ _ _ _ h
/-- java/util/LinkedList$ListItr hasNext()Z @0 -/
theorem gJ41_hasNext_0 (G : JG) {Rt : JRt} (this : Option Nat) {H : JHp} (h :
  ∃ (a1 : Nat) (fs2 : List JVal) (x3 : Int32), this = some a1 ∧ job H a1 31 fs2 ∧ jn fs2 2 = some (jI x3) ∧
  ∃ (a4 : Nat) (fs5 : List JVal) (r6 : Option Nat), this = some a4 ∧ job H a4 31 fs5 ∧ jn fs5 4 = some (jR r6) ∧
  ∃ (a7 : Nat) (fs8 : List JVal) (x9 : Int32), r6 = some a7 ∧ job H a7 27 fs8 ∧ jn fs8 1 = some (jI x9) ∧
  (x9 ≤ x3 →
    jbool (0 : Int32) ∧ Rt (.inl (some (jI 0))) H) ∧
  (¬ x9 ≤ x3 →
    jbool (1 : Int32) ∧ Rt (.inl (some (jI 1))) H)) :
  jwp (jprog G) 159 Rt 0 [some (jR this)] [] H :=
  junf_wp (jprog_nf G) (stop := jmem []) (pJ41_hasNext G) 4000 _ _ _ _ h
/-- java/util/LinkedList$ListItr checkForComodification()V @0 -/
theorem gJ41_checkForComodification_0 (G : JG) {Rt : JRt} (this : Option Nat) {H : JHp} (h :
  ∃ (a1 : Nat) (fs2 : List JVal) (r3 : Option Nat), this = some a1 ∧ job H a1 31 fs2 ∧ jn fs2 4 = some (jR r3) ∧
  ∃ (a4 : Nat) (fs5 : List JVal) (x6 : Int32), r3 = some a4 ∧ job H a4 27 fs5 ∧ jn fs5 0 = some (jI x6) ∧
  ∃ (a7 : Nat) (fs8 : List JVal) (x9 : Int32), this = some a7 ∧ job H a7 31 fs8 ∧ jn fs8 3 = some (jI x9) ∧
  (x6 = x9 →
    Rt (.inl none) H) ∧
  (¬ x6 = x9 →
    False)) :
  jwp (jprog G) 160 Rt 0 [some (jR this)] [] H :=
  junf_wp (jprog_nf G) (stop := jmem []) (pJ41_checkForComodification G) 4000 _ _ _ _ h
/-- java/util/LinkedList$ListItr next()Ljava/lang/Object; @0 -/
theorem gJ41_next_0 (G : JG) {Rt : JRt} (this : Option Nat) {H : JHp} (h :
  ∃ (a1 : Nat) (fs2 : List JVal), this = some a1 ∧ job H a1 31 fs2 ∧ /- J41_checkForComodification -/ ∃ H3 : JHp, jok (jprog G) 160 [jR this] H (.inl none) H3 ∧
  ∃ (a4 : Nat) (fs5 : List JVal), this = some a4 ∧ job H3 a4 31 fs5 ∧ /- J41_hasNext -/ ∃ (x7 : Int32) (H6 : JHp), jok (jprog G) 159 [jR this] H3 (.inl (some (jI x7))) H6 ∧
  (¬ x7 = 0 →
    ∃ (a8 : Nat) (fs9 : List JVal) (r10 : Option Nat), this = some a8 ∧ job H6 a8 31 fs9 ∧ jn fs9 1 = some (jR r10) ∧
    ∃ (a11 : Nat) (fs12 : List JVal) (v13 : JVal), this = some a11 ∧ H6.1 a11 = some (true, jO 31 fs12) ∧ jn fs12 0 = some v13 ∧
    ∃ (a14 : Nat) (fs15 : List JVal) (r16 : Option Nat), this = some a14 ∧ job (jup H6 a11 (jO 31 (jset fs12 0 (jR r10)))) a14 31 fs15 ∧ jn fs15 1 = some (jR r16) ∧
    ∃ (a17 : Nat) (fs18 : List JVal) (r19 : Option Nat), r16 = some a17 ∧ job (jup H6 a11 (jO 31 (jset fs12 0 (jR r10)))) a17 28 fs18 ∧ jn fs18 1 = some (jR r19) ∧
    ∃ (a20 : Nat) (fs21 : List JVal) (v22 : JVal), this = some a20 ∧ (jup H6 a11 (jO 31 (jset fs12 0 (jR r10)))).1 a20 = some (true, jO 31 fs21) ∧ jn fs21 1 = some v22 ∧
    ∃ (a23 : Nat) (fs24 : List JVal) (x25 : Int32), this = some a23 ∧ job (jup (jup H6 a11 (jO 31 (jset fs12 0 (jR r10)))) a20 (jO 31 (jset fs21 1 (jR r19)))) a23 31 fs24 ∧ jn fs24 2 = some (jI x25) ∧
    ∃ (a26 : Nat) (fs27 : List JVal) (v28 : JVal), this = some a26 ∧ (jup (jup H6 a11 (jO 31 (jset fs12 0 (jR r10)))) a20 (jO 31 (jset fs21 1 (jR r19)))).1 a26 = some (true, jO 31 fs27) ∧ jn fs27 2 = some v28 ∧
    ∃ (a29 : Nat) (fs30 : List JVal) (r31 : Option Nat), this = some a29 ∧ job (jup (jup (jup H6 a11 (jO 31 (jset fs12 0 (jR r10)))) a20 (jO 31 (jset fs21 1 (jR r19)))) a26 (jO 31 (jset fs27 2 (jI (x25 + (1 : Int32)))))) a29 31 fs30 ∧ jn fs30 0 = some (jR r31) ∧
    ∃ (a32 : Nat) (fs33 : List JVal) (r34 : Option Nat), r31 = some a32 ∧ job (jup (jup (jup H6 a11 (jO 31 (jset fs12 0 (jR r10)))) a20 (jO 31 (jset fs21 1 (jR r19)))) a26 (jO 31 (jset fs27 2 (jI (x25 + (1 : Int32)))))) a32 28 fs33 ∧ jn fs33 0 = some (jR r34) ∧
    Rt (.inl (some (jR r34))) (jup (jup (jup H6 a11 (jO 31 (jset fs12 0 (jR r10)))) a20 (jO 31 (jset fs21 1 (jR r19)))) a26 (jO 31 (jset fs27 2 (jI (x25 + (1 : Int32))))))) ∧
  (¬ ¬ x7 = 0 →
    False)) :
  jwp (jprog G) 161 Rt 0 [some (jR this)] [] H :=
  junf_wp (jprog_nf G) (stop := jmem []) (pJ41_next G) 4000 _ _ _ _ h
/-- java/lang/Integer numberOfTrailingZeros(I)I @0 -/
theorem gJ25_numberOfTrailingZeros_0 (G : JG) {Rt : JRt} (i_0 : Int32) {H : JHp} (h :
  (0 < ((i_0 ^^^ (-1 : Int32)) &&& (i_0 - (1 : Int32))) →
    (((i_0 ^^^ (-1 : Int32)) &&& (i_0 - (1 : Int32))) ≤ (65536 : Int32) →
      jwp (jprog G) 168 Rt 34 [some (jI ((i_0 ^^^ (-1 : Int32)) &&& (i_0 - (1 : Int32)))), some (jI 1)] [] H) ∧
    (¬ ((i_0 ^^^ (-1 : Int32)) &&& (i_0 - (1 : Int32))) ≤ (65536 : Int32) →
      jwp (jprog G) 168 Rt 34 [some (jI (jushr ((i_0 ^^^ (-1 : Int32)) &&& (i_0 - (1 : Int32))) (16 : Int32))), some (jI ((1 : Int32) + 16))] [] H)) ∧
  (¬ 0 < ((i_0 ^^^ (-1 : Int32)) &&& (i_0 - (1 : Int32))) →
    Rt (.inl (some (jI (((i_0 ^^^ (-1 : Int32)) &&& (i_0 - (1 : Int32))) &&& (32 : Int32))))) H)) :
  jwp (jprog G) 168 Rt 0 [some (jI i_0), none] [] H :=
  junf_wp (jprog_nf G) (stop := jmem [34, 62]) (pJ25_numberOfTrailingZeros G) 4000 _ _ _ _ h
/-- java/lang/Integer numberOfTrailingZeros(I)I @34 -/
theorem gJ25_numberOfTrailingZeros_34 (G : JG) {Rt : JRt} (i_0 : Int32) (i_1 : Int32) {H : JHp} (h :
  (i_0 ≤ (256 : Int32) →
    (i_0 ≤ (16 : Int32) →
      jwp (jprog G) 168 Rt 62 [some (jI i_0), some (jI i_1)] [] H) ∧
    (¬ i_0 ≤ (16 : Int32) →
      jwp (jprog G) 168 Rt 62 [some (jI (jushr i_0 (4 : Int32))), some (jI (i_1 + 4))] [] H)) ∧
  (¬ i_0 ≤ (256 : Int32) →
    ((jushr i_0 (8 : Int32)) ≤ (16 : Int32) →
      jwp (jprog G) 168 Rt 62 [some (jI (jushr i_0 (8 : Int32))), some (jI (i_1 + 8))] [] H) ∧
    (¬ (jushr i_0 (8 : Int32)) ≤ (16 : Int32) →
      jwp (jprog G) 168 Rt 62 [some (jI (jushr (jushr i_0 (8 : Int32)) (4 : Int32))), some (jI ((i_1 + 8) + 4))] [] H))) :
  jwp (jprog G) 168 Rt 34 [some (jI i_0), some (jI i_1)] [] H :=
  junf_wp (jprog_nf G) (stop := jmem [34, 62]) (pJ25_numberOfTrailingZeros G) 4000 _ _ _ _ h
/-- java/lang/Integer numberOfTrailingZeros(I)I @62 -/
theorem gJ25_numberOfTrailingZeros_62 (G : JG) {Rt : JRt} (i_0 : Int32) (i_1 : Int32) {H : JHp} (h :
  (i_0 ≤ (4 : Int32) →
    Rt (.inl (some (jI (i_1 + (jushr i_0 (1 : Int32)))))) H) ∧
  (¬ i_0 ≤ (4 : Int32) →
    Rt (.inl (some (jI ((i_1 + 2) + (jushr (jushr i_0 (2 : Int32)) (1 : Int32)))))) H)) :
  jwp (jprog G) 168 Rt 62 [some (jI i_0), some (jI i_1)] [] H :=
  junf_wp (jprog_nf G) (stop := jmem [34, 62]) (pJ25_numberOfTrailingZeros G) 4000 _ _ _ _ h
/-- java/lang/Long numberOfTrailingZeros(J)I @0 -/
theorem gJ27_numberOfTrailingZeros_0 (G : JG) {Rt : JRt} (l_0 : Int64) {H : JHp} (h :
  (¬ (l_0).toInt32 = 0 →
    /- J25_numberOfTrailingZeros -/ ∃ (x2 : Int32) (H1 : JHp), jok (jprog G) 168 [jI ((l_0).toInt32)] H (.inl (some (jI x2))) H1 ∧
    Rt (.inl (some (jI x2))) H1) ∧
  (¬ ¬ (l_0).toInt32 = 0 →
    /- J25_numberOfTrailingZeros -/ ∃ (x4 : Int32) (H3 : JHp), jok (jprog G) 168 [jI (((jlushr l_0 (32 : Int32))).toInt32)] H (.inl (some (jI x4))) H3 ∧
    Rt (.inl (some (jI ((32 : Int32) + x4)))) H3)) :
  jwp (jprog G) 169 Rt 0 [some (jL l_0), none, none] [] H :=
  junf_wp (jprog_nf G) (stop := jmem []) (pJ27_numberOfTrailingZeros G) 4000 _ _ _ _ h
/-- java/util/BitSet nextSetBit(I)I @0 -/
theorem gJ32_nextSetBit_0 (G : JG) {Rt : JRt} (this : Option Nat) (i_1 : Int32) {H : JHp} (h :
  (0 ≤ i_1 →
    ∃ (a1 : Nat) (fs2 : List JVal), this = some a1 ∧ job H a1 24 fs2 ∧ /- J32_checkInvariants -/ ∃ H3 : JHp, jok (jprog G) 75 [jR this] H (.inl none) H3 ∧
    /- J32_wordIndex -/ ∃ (x5 : Int32) (H4 : JHp), jok (jprog G) 62 [jI i_1] H3 (.inl (some (jI x5))) H4 ∧
    ∃ (a6 : Nat) (fs7 : List JVal) (x8 : Int32), this = some a6 ∧ job H4 a6 24 fs7 ∧ jn fs7 1 = some (jI x8) ∧
    (x5 < x8 →
      ∃ (a9 : Nat) (fs10 : List JVal) (r11 : Option Nat), this = some a9 ∧ job H4 a9 24 fs10 ∧ jn fs10 0 = some (jR r11) ∧
      ∃ (a12 n13 : Nat) (f14 : Nat → Int64), r11 = some a12 ∧ jar H4 a12 1 (aL n13 f14) ∧ vp_in x5 n13 ∧
      jwp (jprog G) 170 Rt 63 [some (jR this), some (jI i_1), some (jI x5), some (jL ((f14 (x5).toNatClampNeg) &&& (jlshl (-1 : Int64) i_1))), none] [] H4) ∧
    (¬ x5 < x8 →
      Rt (.inl (some (jI (-1)))) H4)) ∧
  (¬ 0 ≤ i_1 →
    False)) :
  jwp (jprog G) 170 Rt 0 [some (jR this), some (jI i_1), none, none, none] [] H :=
  junf_wp (jprog_nf G) (stop := jmem [63]) (pJ32_nextSetBit G) 4000 _ _ _ _ h
/-- java/util/BitSet nextSetBit(I)I @63 -/
theorem gJ32_nextSetBit_63 (G : JG) {Rt : JRt} (r_0 : Option Nat) (q_1 : Option JVal) (i_2 : Int32) (l_3 : Int64) (q_4 : Option JVal) {H : JHp} (h :
  ((lg_cmp l_3 (0 : Int64)) = 0 →
    ∃ (a1 : Nat) (fs2 : List JVal) (x3 : Int32), r_0 = some a1 ∧ job H a1 24 fs2 ∧ jn fs2 1 = some (jI x3) ∧
    (¬ (i_2 + 1) = x3 →
      ∃ (a4 : Nat) (fs5 : List JVal) (r6 : Option Nat), r_0 = some a4 ∧ job H a4 24 fs5 ∧ jn fs5 0 = some (jR r6) ∧
      ∃ (a7 n8 : Nat) (f9 : Nat → Int64), r6 = some a7 ∧ jar H a7 1 (aL n8 f9) ∧ vp_in (i_2 + 1) n8 ∧
      jwp (jprog G) 170 Rt 63 [some (jR r_0), (jclr q_1), some (jI (i_2 + 1)), some (jL (f9 ((i_2 + 1)).toNatClampNeg)), none] [] H) ∧
    (¬ ¬ (i_2 + 1) = x3 →
      Rt (.inl (some (jI (-1)))) H)) ∧
  (¬ (lg_cmp l_3 (0 : Int64)) = 0 →
    /- J27_numberOfTrailingZeros -/ ∃ (x11 : Int32) (H10 : JHp), jok (jprog G) 169 [jL l_3] H (.inl (some (jI x11))) H10 ∧
    Rt (.inl (some (jI ((i_2 * (64 : Int32)) + x11)))) H10)) :
  jwp (jprog G) 170 Rt 63 [some (jR r_0), q_1, some (jI i_2), some (jL l_3), q_4] [] H :=
  junf_wp (jprog_nf G) (stop := jmem [63]) (pJ32_nextSetBit G) 4000 _ _ _ _ h
/-- java/lang/AbstractStringBuilder length()I @0 -/
theorem gJ8_length__J9_0 (G : JG) {Rt : JRt} (this : Option Nat) {H : JHp} (h :
  ∃ (a1 : Nat) (fs2 : List JVal) (x3 : Int32), this = some a1 ∧ job H a1 15 fs2 ∧ jn fs2 3 = some (jI x3) ∧
  Rt (.inl (some (jI x3))) H) :
  jwp (jprog G) 175 Rt 0 [some (jR this)] [] H :=
  junf_wp (jprog_nf G) (stop := jmem []) (pJ8_length__J9 G) 4000 _ _ _ _ h
/-- java/lang/StringBuilder length()I @0 -/
theorem gJ9_length_0 (G : JG) {Rt : JRt} (this : Option Nat) {H : JHp} (h :
  ∃ (a1 : Nat) (fs2 : List JVal), this = some a1 ∧ job H a1 15 fs2 ∧ /- J8_length__J9 -/ ∃ (x4 : Int32) (H3 : JHp), jok (jprog G) 175 [jR this] H (.inl (some (jI x4))) H3 ∧
  Rt (.inl (some (jI x4))) H3) :
  jwp (jprog G) 176 Rt 0 [some (jR this)] [] H :=
  junf_wp (jprog_nf G) (stop := jmem []) (pJ9_length G) 4000 _ _ _ _ h
/-- java/lang/String coder()B @0 -/
theorem gJ10_coder_0 (G : JG) {Rt : JRt} (this : Option Nat) {H : JHp} (h :
  ((1 : Int32) = 0 →
    jbyte (1 : Int32) ∧ Rt (.inl (some (jI 1))) H) ∧
  (¬ (1 : Int32) = 0 →
    ∃ (a1 : Nat) (fs2 : List JVal) (x3 : Int32), this = some a1 ∧ job H a1 16 fs2 ∧ jn fs2 1 = some (jI x3) ∧
    jbyte x3 ∧ Rt (.inl (some (jI x3))) H)) :
  jwp (jprog G) 182 Rt 0 [some (jR this)] [] H :=
  junf_wp (jprog_nf G) (stop := jmem []) (pJ10_coder G) 4000 _ _ _ _ h
/-- java/lang/String length()I @0 -/
theorem gJ10_length_0 (G : JG) {Rt : JRt} (this : Option Nat) {H : JHp} (h :
  ∃ (a1 : Nat) (fs2 : List JVal) (r3 : Option Nat), this = some a1 ∧ job H a1 16 fs2 ∧ jn fs2 0 = some (jR r3) ∧
  ∃ (a4 : Nat) (A5 : vp_A), r3 = some a4 ∧ jar H a4 2 A5 ∧
  ∃ (a6 : Nat) (fs7 : List JVal), this = some a6 ∧ job H a6 16 fs7 ∧ /- J10_coder -/ ∃ (x9 : Int32) (H8 : JHp), jok (jprog G) 182 [jR this] H (.inl (some (jI x9))) H8 ∧
  Rt (.inl (some (jI (jshr (nI A5.1) x9)))) H8) :
  jwp (jprog G) 183 Rt 0 [some (jR this)] [] H :=
  junf_wp (jprog_nf G) (stop := jmem []) (pJ10_length G) 4000 _ _ _ _ h
/-- java/lang/String isLatin1()Z @0 -/
theorem gJ10_isLatin1_0 (G : JG) {Rt : JRt} (this : Option Nat) {H : JHp} (h :
  ((1 : Int32) = 0 →
    jbool (0 : Int32) ∧ Rt (.inl (some (jI 0))) H) ∧
  (¬ (1 : Int32) = 0 →
    ∃ (a1 : Nat) (fs2 : List JVal) (x3 : Int32), this = some a1 ∧ job H a1 16 fs2 ∧ jn fs2 1 = some (jI x3) ∧
    (¬ x3 = 0 →
      jbool (0 : Int32) ∧ Rt (.inl (some (jI 0))) H) ∧
    (¬ ¬ x3 = 0 →
      jbool (1 : Int32) ∧ Rt (.inl (some (jI 1))) H))) :
  jwp (jprog G) 185 Rt 0 [some (jR this)] [] H :=
  junf_wp (jprog_nf G) (stop := jmem []) (pJ10_isLatin1 G) 4000 _ _ _ _ h
/-- java/lang/String checkIndex(II)V @0 -/
theorem gJ10_checkIndex_0 (G : JG) {Rt : JRt} (i_0 : Int32) (i_1 : Int32) {H : JHp} (h :
  /- J14_checkIndex -/ ∃ (x2 : Int32) (H1 : JHp), jok (jprog G) 129 [jI i_0, jI i_1, jR (G.2 1)] H (.inl (some (jI x2))) H1 ∧
  Rt (.inl none) H1) :
  jwp (jprog G) 186 Rt 0 [some (jI i_0), some (jI i_1)] [] H :=
  junf_wp (jprog_nf G) (stop := jmem []) (pJ10_checkIndex G) 4000 _ _ _ _ h
/-- java/lang/StringLatin1 charAt([BI)C @0 -/
theorem gJ22_charAt_0 (G : JG) {Rt : JRt} (r_0 : Option Nat) (i_1 : Int32) {H : JHp} (h :
  ∃ (a1 : Nat) (A2 : vp_A), r_0 = some a1 ∧ jar H a1 2 A2 ∧
  /- J10_checkIndex -/ ∃ H3 : JHp, jok (jprog G) 186 [jI i_1, jI (nI A2.1)] H (.inl none) H3 ∧
  ∃ (a4 n5 : Nat) (f6 : Nat → Int32), r_0 = some a4 ∧ jar H3 a4 2 (aI n5 f6) ∧ vp_in i_1 n5 ∧
  jchar (((((f6 (i_1).toNatClampNeg) &&& (255 : Int32))).toUInt32 % 65536).toInt32) ∧ Rt (.inl (some (jI (((((f6 (i_1).toNatClampNeg) &&& (255 : Int32))).toUInt32 % 65536).toInt32)))) H3) :
  jwp (jprog G) 187 Rt 0 [some (jR r_0), some (jI i_1)] [] H :=
  junf_wp (jprog_nf G) (stop := jmem []) (pJ22_charAt G) 4000 _ _ _ _ h
/-- java/lang/String charAt(I)C @0 -/
theorem gJ10_charAt_0 (G : JG) {Rt : JRt} (this : Option Nat) (i_1 : Int32) {H : JHp} (h :
  ∃ (a1 : Nat) (fs2 : List JVal), this = some a1 ∧ job H a1 16 fs2 ∧ /- J10_isLatin1 -/ ∃ (x4 : Int32) (H3 : JHp), jok (jprog G) 185 [jR this] H (.inl (some (jI x4))) H3 ∧
  (x4 = 0 →
    False) ∧
  (¬ x4 = 0 →
    ∃ (a5 : Nat) (fs6 : List JVal) (r7 : Option Nat), this = some a5 ∧ job H3 a5 16 fs6 ∧ jn fs6 0 = some (jR r7) ∧
    /- J22_charAt -/ ∃ (x9 : Int32) (H8 : JHp), jok (jprog G) 187 [jR r7, jI i_1] H3 (.inl (some (jI x9))) H8 ∧
    jchar x9 ∧ Rt (.inl (some (jI x9))) H8)) :
  jwp (jprog G) 188 Rt 0 [some (jR this), some (jI i_1)] [] H :=
  junf_wp (jprog_nf G) (stop := jmem []) (pJ10_charAt G) 4000 _ _ _ _ h
/-- java/lang/AbstractStringBuilder newCapacity(I)I @0 -/
theorem gJ8_newCapacity__J9_0 (G : JG) {Rt : JRt} (this : Option Nat) (i_1 : Int32) {H : JHp} (h :
  ∃ (a1 : Nat) (fs2 : List JVal) (r3 : Option Nat), this = some a1 ∧ job H a1 15 fs2 ∧ jn fs2 0 = some (jR r3) ∧
  ∃ (a4 : Nat) (A5 : vp_A), r3 = some a4 ∧ jar H a4 2 A5 ∧
  ∃ (a6 : Nat) (fs7 : List JVal) (x8 : Int32), this = some a6 ∧ job H a6 15 fs7 ∧ jn fs7 1 = some (jI x8) ∧
  ∃ (a9 : Nat) (fs10 : List JVal) (x11 : Int32), this = some a9 ∧ job H a9 15 fs10 ∧ jn fs10 1 = some (jI x11) ∧
  /- J19_newLength -/ ∃ (x13 : Int32) (H12 : JHp), jok (jprog G) 36 [jI (nI A5.1), jI ((jshl i_1 x8) - (nI A5.1)), jI ((nI A5.1) + (jshl (2 : Int32) x11))] H (.inl (some (jI x13))) H12 ∧
  (¬ x13 = (2147483647 : Int32) →
    ∃ (a14 : Nat) (fs15 : List JVal) (x16 : Int32), this = some a14 ∧ job H12 a14 15 fs15 ∧ jn fs15 1 = some (jI x16) ∧
    Rt (.inl (some (jI (jshr x13 x16)))) H12) ∧
  (¬ ¬ x13 = (2147483647 : Int32) →
    False)) :
  jwp (jprog G) 191 Rt 0 [some (jR this), some (jI i_1), none, none, none, none] [] H :=
  junf_wp (jprog_nf G) (stop := jmem []) (pJ8_newCapacity__J9 G) 4000 _ _ _ _ h
/-- java/util/Arrays copyOf([BI)[B @0 -/
theorem gJ21_copyOf_0 (G : JG) {Rt : JRt} (r_0 : Option Nat) (i_1 : Int32) {H : JHp} (h :
  ∃ (a1 : Nat) (A2 : vp_A), r_0 = some a1 ∧ jar H a1 2 A2 ∧
  (¬ i_1 = (nI A2.1) →
    ¬ i_1 < 0 ∧ (i_1).toNatClampNeg ≤ 65536 ∧
    ∃ (a3 : Nat) (A4 : vp_A), r_0 = some a3 ∧ jar (jnew H (jA 2 (aI (i_1).toNatClampNeg (fun _ => 0))) (i_1).toNatClampNeg) a3 2 A4 ∧
    /- J20_min -/ ∃ (x6 : Int32) (H5 : JHp), jok (jprog G) 37 [jI (nI A4.1), jI i_1] (jnew H (jA 2 (aI (i_1).toNatClampNeg (fun _ => 0))) (i_1).toNatClampNeg) (.inl (some (jI x6))) H5 ∧
    ∃ (a7 b7 n7 m7 : Nat) (f7 g7 : Nat → Int32) (sp7 dp7 k7 : Nat), r_0 = some a7 ∧ (some H.2.1) = some b7 ∧ jar H5 a7 2 (aI n7 f7) ∧ H5.1 b7 = some (true, jA 2 (aI m7 g7)) ∧ (0 : Int32) = nI sp7 ∧ (0 : Int32) = nI dp7 ∧ x6 = nI k7 ∧ sp7 + k7 ≤ n7 ∧ dp7 + k7 ≤ m7 ∧ n7 < 2 ^ 31 ∧ m7 < 2 ^ 31 ∧ (∀ q, q < k7 → jbyte (f7 (sp7 + q))) ∧
    Rt (.inl (some (jR (some H.2.1)))) (jup H5 b7 (jA 2 (aI m7 (va_cpy f7 g7 sp7 dp7 k7))))) ∧
  (¬ ¬ i_1 = (nI A2.1) →
    False)) :
  jwp (jprog G) 192 Rt 0 [some (jR r_0), some (jI i_1), none] [] H :=
  junf_wp (jprog_nf G) (stop := jmem []) (pJ21_copyOf G) 4000 _ _ _ _ h
/-- java/lang/AbstractStringBuilder ensureCapacityInternal(I)V @0 -/
theorem gJ8_ensureCapacityInternal__J9_0 (G : JG) {Rt : JRt} (this : Option Nat) (i_1 : Int32) {H : JHp} (h :
  ∃ (a1 : Nat) (fs2 : List JVal) (r3 : Option Nat), this = some a1 ∧ job H a1 15 fs2 ∧ jn fs2 0 = some (jR r3) ∧
  ∃ (a4 : Nat) (A5 : vp_A), r3 = some a4 ∧ jar H a4 2 A5 ∧
  ∃ (a6 : Nat) (fs7 : List JVal) (x8 : Int32), this = some a6 ∧ job H a6 15 fs7 ∧ jn fs7 1 = some (jI x8) ∧
  ((i_1 - (jshr (nI A5.1) x8)) ≤ 0 →
    Rt (.inl none) H) ∧
  (¬ (i_1 - (jshr (nI A5.1) x8)) ≤ 0 →
    ∃ (a9 : Nat) (fs10 : List JVal) (r11 : Option Nat), this = some a9 ∧ job H a9 15 fs10 ∧ jn fs10 0 = some (jR r11) ∧
    ∃ (a12 : Nat) (fs13 : List JVal), this = some a12 ∧ job H a12 15 fs13 ∧ /- J8_newCapacity__J9 -/ ∃ (x15 : Int32) (H14 : JHp), jok (jprog G) 191 [jR this, jI i_1] H (.inl (some (jI x15))) H14 ∧
    ∃ (a16 : Nat) (fs17 : List JVal) (x18 : Int32), this = some a16 ∧ job H14 a16 15 fs17 ∧ jn fs17 1 = some (jI x18) ∧
    /- J21_copyOf -/ ∃ (r20 : Option Nat) (H19 : JHp), jok (jprog G) 192 [jR r11, jI (jshl x15 x18)] H14 (.inl (some (jR r20))) H19 ∧
    ∃ (a21 : Nat) (fs22 : List JVal) (v23 : JVal), this = some a21 ∧ H19.1 a21 = some (true, jO 15 fs22) ∧ jn fs22 0 = some v23 ∧
    Rt (.inl none) (jup H19 a21 (jO 15 (jset fs22 0 (jR r20)))))) :
  jwp (jprog G) 193 Rt 0 [some (jR this), some (jI i_1), none] [] H :=
  junf_wp (jprog_nf G) (stop := jmem []) (pJ8_ensureCapacityInternal__J9 G) 4000 _ _ _ _ h
/-- java/lang/AbstractStringBuilder inflateIfNeededFor(Ljava/lang/String;)V @0 -/
theorem gJ8_inflateIfNeededFor__J9_0 (G : JG) {Rt : JRt} (this : Option Nat) (r_1 : Option Nat) {H : JHp} (h :
  ((1 : Int32) = 0 →
    Rt (.inl none) H) ∧
  (¬ (1 : Int32) = 0 →
    ∃ (a1 : Nat) (fs2 : List JVal) (x3 : Int32), this = some a1 ∧ job H a1 15 fs2 ∧ jn fs2 1 = some (jI x3) ∧
    ∃ (a4 : Nat) (fs5 : List JVal), r_1 = some a4 ∧ job H a4 16 fs5 ∧ /- J10_coder -/ ∃ (x7 : Int32) (H6 : JHp), jok (jprog G) 182 [jR r_1] H (.inl (some (jI x7))) H6 ∧
    (x3 = x7 →
      Rt (.inl none) H6) ∧
    (¬ x3 = x7 →
      False))) :
  jwp (jprog G) 194 Rt 0 [some (jR this), some (jR r_1)] [] H :=
  junf_wp (jprog_nf G) (stop := jmem []) (pJ8_inflateIfNeededFor__J9 G) 4000 _ _ _ _ h
/-- java/lang/String getBytes([BIB)V @0 -/
theorem gJ10_getBytes_0 (G : JG) {Rt : JRt} (this : Option Nat) (r_1 : Option Nat) (i_2 : Int32) (i_3 : Int32) {H : JHp} (h :
  ∃ (a1 : Nat) (fs2 : List JVal), this = some a1 ∧ job H a1 16 fs2 ∧ /- J10_coder -/ ∃ (x4 : Int32) (H3 : JHp), jok (jprog G) 182 [jR this] H (.inl (some (jI x4))) H3 ∧
  (¬ x4 = i_3 →
    False) ∧
  (¬ ¬ x4 = i_3 →
    ∃ (a5 : Nat) (fs6 : List JVal) (r7 : Option Nat), this = some a5 ∧ job H3 a5 16 fs6 ∧ jn fs6 0 = some (jR r7) ∧
    ∃ (a8 : Nat) (fs9 : List JVal) (r10 : Option Nat), this = some a8 ∧ job H3 a8 16 fs9 ∧ jn fs9 0 = some (jR r10) ∧
    ∃ (a11 : Nat) (A12 : vp_A), r10 = some a11 ∧ jar H3 a11 2 A12 ∧
    ∃ (a13 b13 n13 m13 : Nat) (f13 g13 : Nat → Int32) (sp13 dp13 k13 : Nat), r7 = some a13 ∧ r_1 = some b13 ∧ jar H3 a13 2 (aI n13 f13) ∧ H3.1 b13 = some (true, jA 2 (aI m13 g13)) ∧ (0 : Int32) = nI sp13 ∧ (jshl i_2 i_3) = nI dp13 ∧ (nI A12.1) = nI k13 ∧ sp13 + k13 ≤ n13 ∧ dp13 + k13 ≤ m13 ∧ n13 < 2 ^ 31 ∧ m13 < 2 ^ 31 ∧ (∀ q, q < k13 → jbyte (f13 (sp13 + q))) ∧
    Rt (.inl none) (jup H3 b13 (jA 2 (aI m13 (va_cpy f13 g13 sp13 dp13 k13)))))) :
  jwp (jprog G) 195 Rt 0 [some (jR this), some (jR r_1), some (jI i_2), some (jI i_3)] [] H :=
  junf_wp (jprog_nf G) (stop := jmem []) (pJ10_getBytes G) 4000 _ _ _ _ h
/-- java/lang/AbstractStringBuilder putStringAt(ILjava/lang/String;)V @0 -/
theorem gJ8_putStringAt__J9_0 (G : JG) {Rt : JRt} (this : Option Nat) (i_1 : Int32) (r_2 : Option Nat) {H : JHp} (h :
  ∃ (a1 : Nat) (fs2 : List JVal), this = some a1 ∧ job H a1 15 fs2 ∧ /- J8_inflateIfNeededFor__J9 -/ ∃ H3 : JHp, jok (jprog G) 194 [jR this, jR r_2] H (.inl none) H3 ∧
  ∃ (a4 : Nat) (fs5 : List JVal) (r6 : Option Nat), this = some a4 ∧ job H3 a4 15 fs5 ∧ jn fs5 0 = some (jR r6) ∧
  ∃ (a7 : Nat) (fs8 : List JVal) (x9 : Int32), this = some a7 ∧ job H3 a7 15 fs8 ∧ jn fs8 1 = some (jI x9) ∧
  ∃ (a10 : Nat) (fs11 : List JVal), r_2 = some a10 ∧ job H3 a10 16 fs11 ∧ /- J10_getBytes -/ ∃ H12 : JHp, jok (jprog G) 195 [jR r_2, jR r6, jI i_1, jI x9] H3 (.inl none) H12 ∧
  Rt (.inl none) H12) :
  jwp (jprog G) 196 Rt 0 [some (jR this), some (jI i_1), some (jR r_2)] [] H :=
  junf_wp (jprog_nf G) (stop := jmem []) (pJ8_putStringAt__J9 G) 4000 _ _ _ _ h
/-- java/lang/AbstractStringBuilder append(Ljava/lang/String;)Ljava/lang/AbstractStringBuilder; @0 -/
theorem gJ8_append__J9_0 (G : JG) {Rt : JRt} (this : Option Nat) (r_1 : Option Nat) {H : JHp} (h :
  ((¬ r_1 = none) →
    ∃ (a1 : Nat) (fs2 : List JVal), r_1 = some a1 ∧ job H a1 16 fs2 ∧ /- J10_length -/ ∃ (x4 : Int32) (H3 : JHp), jok (jprog G) 183 [jR r_1] H (.inl (some (jI x4))) H3 ∧
    ∃ (a5 : Nat) (fs6 : List JVal) (x7 : Int32), this = some a5 ∧ job H3 a5 15 fs6 ∧ jn fs6 3 = some (jI x7) ∧
    ∃ (a8 : Nat) (fs9 : List JVal), this = some a8 ∧ job H3 a8 15 fs9 ∧ /- J8_ensureCapacityInternal__J9 -/ ∃ H10 : JHp, jok (jprog G) 193 [jR this, jI (x7 + x4)] H3 (.inl none) H10 ∧
    ∃ (a11 : Nat) (fs12 : List JVal) (x13 : Int32), this = some a11 ∧ job H10 a11 15 fs12 ∧ jn fs12 3 = some (jI x13) ∧
    ∃ (a14 : Nat) (fs15 : List JVal), this = some a14 ∧ job H10 a14 15 fs15 ∧ /- J8_putStringAt__J9 -/ ∃ H16 : JHp, jok (jprog G) 196 [jR this, jI x13, jR r_1] H10 (.inl none) H16 ∧
    ∃ (a17 : Nat) (fs18 : List JVal) (x19 : Int32), this = some a17 ∧ job H16 a17 15 fs18 ∧ jn fs18 3 = some (jI x19) ∧
    ∃ (a20 : Nat) (fs21 : List JVal) (v22 : JVal), this = some a20 ∧ H16.1 a20 = some (true, jO 15 fs21) ∧ jn fs21 3 = some v22 ∧
    Rt (.inl (some (jR this))) (jup H16 a20 (jO 15 (jset fs21 3 (jI (x19 + x4)))))) ∧
  (¬ (¬ r_1 = none) →
    False)) :
  jwp (jprog G) 197 Rt 0 [some (jR this), some (jR r_1), none] [] H :=
  junf_wp (jprog_nf G) (stop := jmem []) (pJ8_append__J9 G) 4000 _ _ _ _ h
/-- java/lang/StringBuilder append(Ljava/lang/String;)Ljava/lang/StringBuilder; @0 -/
theorem gJ9_append_0 (G : JG) {Rt : JRt} (this : Option Nat) (r_1 : Option Nat) {H : JHp} (h :
  ∃ (a1 : Nat) (fs2 : List JVal), this = some a1 ∧ job H a1 15 fs2 ∧ /- J8_append__J9 -/ ∃ (r4 : Option Nat) (H3 : JHp), jok (jprog G) 197 [jR this, jR r_1] H (.inl (some (jR r4))) H3 ∧
  Rt (.inl (some (jR this))) H3) :
  jwp (jprog G) 198 Rt 0 [some (jR this), some (jR r_1)] [] H :=
  junf_wp (jprog_nf G) (stop := jmem []) (pJ9_append G) 4000 _ _ _ _ h
/-- java/lang/Integer stringSize(I)I @0 -/
theorem gJ25_stringSize_0 (G : JG) {Rt : JRt} (i_0 : Int32) {H : JHp} (h :
  (i_0 < 0 →
    jwp (jprog G) 199 Rt 16 [some (jI i_0), some (jI 1), some (jI (-10)), some (jI 1)] [] H) ∧
  (¬ i_0 < 0 →
    jwp (jprog G) 199 Rt 16 [some (jI (-i_0)), some (jI 0), some (jI (-10)), some (jI 1)] [] H)) :
  jwp (jprog G) 199 Rt 0 [some (jI i_0), none, none, none] [] H :=
  junf_wp (jprog_nf G) (stop := jmem [16]) (pJ25_stringSize G) 4000 _ _ _ _ h
/-- java/lang/Integer stringSize(I)I @16 -/
theorem gJ25_stringSize_16 (G : JG) {Rt : JRt} (i_0 : Int32) (i_1 : Int32) (i_2 : Int32) (i_3 : Int32) {H : JHp} (h :
  ((10 : Int32) ≤ i_3 →
    Rt (.inl (some (jI ((10 : Int32) + i_1)))) H) ∧
  (¬ (10 : Int32) ≤ i_3 →
    (i_0 ≤ i_2 →
      jwp (jprog G) 199 Rt 16 [some (jI i_0), some (jI i_1), some (jI ((10 : Int32) * i_2)), some (jI (i_3 + 1))] [] H) ∧
    (¬ i_0 ≤ i_2 →
      Rt (.inl (some (jI (i_3 + i_1)))) H))) :
  jwp (jprog G) 199 Rt 16 [some (jI i_0), some (jI i_1), some (jI i_2), some (jI i_3)] [] H :=
  junf_wp (jprog_nf G) (stop := jmem [16]) (pJ25_stringSize G) 4000 _ _ _ _ h
/-- java/lang/AbstractStringBuilder isLatin1()Z @0 -/
theorem gJ8_isLatin1__J9_0 (G : JG) {Rt : JRt} (this : Option Nat) {H : JHp} (h :
  ((1 : Int32) = 0 →
    jbool (0 : Int32) ∧ Rt (.inl (some (jI 0))) H) ∧
  (¬ (1 : Int32) = 0 →
    ∃ (a1 : Nat) (fs2 : List JVal) (x3 : Int32), this = some a1 ∧ job H a1 15 fs2 ∧ jn fs2 1 = some (jI x3) ∧
    (¬ x3 = 0 →
      jbool (0 : Int32) ∧ Rt (.inl (some (jI 0))) H) ∧
    (¬ ¬ x3 = 0 →
      jbool (1 : Int32) ∧ Rt (.inl (some (jI 1))) H))) :
  jwp (jprog G) 200 Rt 0 [some (jR this)] [] H :=
  junf_wp (jprog_nf G) (stop := jmem []) (pJ8_isLatin1__J9 G) 4000 _ _ _ _ h
/-- java/lang/Integer getChars(II[B)I @0 -/
theorem gJ25_getChars_0 (G : JG) {Rt : JRt} (i_0 : Int32) (i_1 : Int32) (r_2 : Option Nat) {H : JHp} (h :
  (0 ≤ i_0 →
    (¬ (0 : Int32) = 0 →
      jwp (jprog G) 201 Rt 22 [some (jI i_0), some (jI i_1), some (jR r_2), none, none, some (jI i_1), some (jI 0)] [] H) ∧
    (¬ ¬ (0 : Int32) = 0 →
      jwp (jprog G) 201 Rt 22 [some (jI (-i_0)), some (jI i_1), some (jR r_2), none, none, some (jI i_1), some (jI 0)] [] H)) ∧
  (¬ 0 ≤ i_0 →
    (¬ (1 : Int32) = 0 →
      jwp (jprog G) 201 Rt 22 [some (jI i_0), some (jI i_1), some (jR r_2), none, none, some (jI i_1), some (jI 1)] [] H) ∧
    (¬ ¬ (1 : Int32) = 0 →
      jwp (jprog G) 201 Rt 22 [some (jI (-i_0)), some (jI i_1), some (jR r_2), none, none, some (jI i_1), some (jI 1)] [] H))) :
  jwp (jprog G) 201 Rt 0 [some (jI i_0), some (jI i_1), some (jR r_2), none, none, none, none] [] H :=
  junf_wp (jprog_nf G) (stop := jmem [22]) (pJ25_getChars G) 4000 _ _ _ _ h
/-- java/lang/Integer getChars(II[B)I @22 -/
theorem gJ25_getChars_22 (G : JG) {Rt : JRt} (i_0 : Int32) (q_1 : Option JVal) (r_2 : Option Nat) (q_3 : Option JVal) (q_4 : Option JVal) (i_5 : Int32) (i_6 : Int32) {H : JHp} (h :
  ((-100 : Int32) < i_0 →
    ∃ (a1 n2 : Nat) (f3 : Nat → Int32), (some (G.1 6)) = some a1 ∧ jar H a1 2 (aI n2 f3) ∧ vp_in (-i_0) n2 ∧
    ∃ (a4 n5 : Nat) (f6 : Nat → Int32), r_2 = some a4 ∧ H.1 a4 = some (true, jA 2 (aI n5 f6)) ∧ vp_in (i_5 + (-1)) n5 ∧ 
    ((-9 : Int32) ≤ i_0 →
      (i_6 = 0 →
        Rt (.inl (some (jI (i_5 + (-1))))) (jup H a4 (jA 2 (aI n5 (upd f6 ((i_5 + (-1))).toNatClampNeg (((f3 ((-i_0)).toNatClampNeg)).toInt8.toInt32)))))) ∧
      (¬ i_6 = 0 →
        ∃ (a7 n8 : Nat) (f9 : Nat → Int32), r_2 = some a7 ∧ (jup H a4 (jA 2 (aI n5 (upd f6 ((i_5 + (-1))).toNatClampNeg (((f3 ((-i_0)).toNatClampNeg)).toInt8.toInt32))))).1 a7 = some (true, jA 2 (aI n8 f9)) ∧ vp_in ((i_5 + (-1)) + (-1)) n8 ∧ 
        Rt (.inl (some (jI ((i_5 + (-1)) + (-1))))) (jup (jup H a4 (jA 2 (aI n5 (upd f6 ((i_5 + (-1))).toNatClampNeg (((f3 ((-i_0)).toNatClampNeg)).toInt8.toInt32))))) a7 (jA 2 (aI n8 (upd f9 (((i_5 + (-1)) + (-1))).toNatClampNeg (((45 : Int32)).toInt8.toInt32))))))) ∧
    (¬ (-9 : Int32) ≤ i_0 →
      ∃ (a10 n11 : Nat) (f12 : Nat → Int32), (some (G.1 7)) = some a10 ∧ jar (jup H a4 (jA 2 (aI n5 (upd f6 ((i_5 + (-1))).toNatClampNeg (((f3 ((-i_0)).toNatClampNeg)).toInt8.toInt32))))) a10 2 (aI n11 f12) ∧ vp_in (-i_0) n11 ∧
      ∃ (a13 n14 : Nat) (f15 : Nat → Int32), r_2 = some a13 ∧ (jup H a4 (jA 2 (aI n5 (upd f6 ((i_5 + (-1))).toNatClampNeg (((f3 ((-i_0)).toNatClampNeg)).toInt8.toInt32))))).1 a13 = some (true, jA 2 (aI n14 f15)) ∧ vp_in ((i_5 + (-1)) + (-1)) n14 ∧ 
      (i_6 = 0 →
        Rt (.inl (some (jI ((i_5 + (-1)) + (-1))))) (jup (jup H a4 (jA 2 (aI n5 (upd f6 ((i_5 + (-1))).toNatClampNeg (((f3 ((-i_0)).toNatClampNeg)).toInt8.toInt32))))) a13 (jA 2 (aI n14 (upd f15 (((i_5 + (-1)) + (-1))).toNatClampNeg (((f12 ((-i_0)).toNatClampNeg)).toInt8.toInt32)))))) ∧
      (¬ i_6 = 0 →
        ∃ (a16 n17 : Nat) (f18 : Nat → Int32), r_2 = some a16 ∧ (jup (jup H a4 (jA 2 (aI n5 (upd f6 ((i_5 + (-1))).toNatClampNeg (((f3 ((-i_0)).toNatClampNeg)).toInt8.toInt32))))) a13 (jA 2 (aI n14 (upd f15 (((i_5 + (-1)) + (-1))).toNatClampNeg (((f12 ((-i_0)).toNatClampNeg)).toInt8.toInt32))))).1 a16 = some (true, jA 2 (aI n17 f18)) ∧ vp_in (((i_5 + (-1)) + (-1)) + (-1)) n17 ∧ 
        Rt (.inl (some (jI (((i_5 + (-1)) + (-1)) + (-1))))) (jup (jup (jup H a4 (jA 2 (aI n5 (upd f6 ((i_5 + (-1))).toNatClampNeg (((f3 ((-i_0)).toNatClampNeg)).toInt8.toInt32))))) a13 (jA 2 (aI n14 (upd f15 (((i_5 + (-1)) + (-1))).toNatClampNeg (((f12 ((-i_0)).toNatClampNeg)).toInt8.toInt32))))) a16 (jA 2 (aI n17 (upd f18 ((((i_5 + (-1)) + (-1)) + (-1))).toNatClampNeg (((45 : Int32)).toInt8.toInt32)))))))) ∧
  (¬ (-100 : Int32) < i_0 →
    ¬ (100 : Int32) = 0 ∧
    ∃ (a19 n20 : Nat) (f21 : Nat → Int32), (some (G.1 6)) = some a19 ∧ jar H a19 2 (aI n20 f21) ∧ vp_in (((i_0 / (100 : Int32)) * (100 : Int32)) - i_0) n20 ∧
    ∃ (a22 n23 : Nat) (f24 : Nat → Int32), r_2 = some a22 ∧ H.1 a22 = some (true, jA 2 (aI n23 f24)) ∧ vp_in (i_5 + (-1)) n23 ∧ 
    ∃ (a25 n26 : Nat) (f27 : Nat → Int32), (some (G.1 7)) = some a25 ∧ jar (jup H a22 (jA 2 (aI n23 (upd f24 ((i_5 + (-1))).toNatClampNeg (((f21 ((((i_0 / (100 : Int32)) * (100 : Int32)) - i_0)).toNatClampNeg)).toInt8.toInt32))))) a25 2 (aI n26 f27) ∧ vp_in (((i_0 / (100 : Int32)) * (100 : Int32)) - i_0) n26 ∧
    ∃ (a28 n29 : Nat) (f30 : Nat → Int32), r_2 = some a28 ∧ (jup H a22 (jA 2 (aI n23 (upd f24 ((i_5 + (-1))).toNatClampNeg (((f21 ((((i_0 / (100 : Int32)) * (100 : Int32)) - i_0)).toNatClampNeg)).toInt8.toInt32))))).1 a28 = some (true, jA 2 (aI n29 f30)) ∧ vp_in ((i_5 + (-1)) + (-1)) n29 ∧ 
    jwp (jprog G) 201 Rt 22 [some (jI (i_0 / (100 : Int32))), q_1, some (jR r_2), some (jI (i_0 / (100 : Int32))), some (jI (((i_0 / (100 : Int32)) * (100 : Int32)) - i_0)), some (jI ((i_5 + (-1)) + (-1))), some (jI i_6)] [] (jup (jup H a22 (jA 2 (aI n23 (upd f24 ((i_5 + (-1))).toNatClampNeg (((f21 ((((i_0 / (100 : Int32)) * (100 : Int32)) - i_0)).toNatClampNeg)).toInt8.toInt32))))) a28 (jA 2 (aI n29 (upd f30 (((i_5 + (-1)) + (-1))).toNatClampNeg (((f27 ((((i_0 / (100 : Int32)) * (100 : Int32)) - i_0)).toNatClampNeg)).toInt8.toInt32))))))) :
  jwp (jprog G) 201 Rt 22 [some (jI i_0), q_1, some (jR r_2), q_3, q_4, some (jI i_5), some (jI i_6)] [] H :=
  junf_wp (jprog_nf G) (stop := jmem [22]) (pJ25_getChars G) 4000 _ _ _ _ h
/-- java/lang/AbstractStringBuilder append(I)Ljava/lang/AbstractStringBuilder; @0 -/
theorem gJ8_append_3__J9_0 (G : JG) {Rt : JRt} (this : Option Nat) (i_1 : Int32) {H : JHp} (h :
  ∃ (a1 : Nat) (fs2 : List JVal) (x3 : Int32), this = some a1 ∧ job H a1 15 fs2 ∧ jn fs2 3 = some (jI x3) ∧
  /- J25_stringSize -/ ∃ (x5 : Int32) (H4 : JHp), jok (jprog G) 199 [jI i_1] H (.inl (some (jI x5))) H4 ∧
  ∃ (a6 : Nat) (fs7 : List JVal), this = some a6 ∧ job H4 a6 15 fs7 ∧ /- J8_ensureCapacityInternal__J9 -/ ∃ H8 : JHp, jok (jprog G) 193 [jR this, jI (x3 + x5)] H4 (.inl none) H8 ∧
  ∃ (a9 : Nat) (fs10 : List JVal), this = some a9 ∧ job H8 a9 15 fs10 ∧ /- J8_isLatin1__J9 -/ ∃ (x12 : Int32) (H11 : JHp), jok (jprog G) 200 [jR this] H8 (.inl (some (jI x12))) H11 ∧
  (x12 = 0 →
    False) ∧
  (¬ x12 = 0 →
    ∃ (a13 : Nat) (fs14 : List JVal) (r15 : Option Nat), this = some a13 ∧ job H11 a13 15 fs14 ∧ jn fs14 0 = some (jR r15) ∧
    /- J25_getChars -/ ∃ (x17 : Int32) (H16 : JHp), jok (jprog G) 201 [jI i_1, jI (x3 + x5), jR r15] H11 (.inl (some (jI x17))) H16 ∧
    ∃ (a18 : Nat) (fs19 : List JVal) (v20 : JVal), this = some a18 ∧ H16.1 a18 = some (true, jO 15 fs19) ∧ jn fs19 3 = some v20 ∧
    Rt (.inl (some (jR this))) (jup H16 a18 (jO 15 (jset fs19 3 (jI (x3 + x5))))))) :
  jwp (jprog G) 202 Rt 0 [some (jR this), some (jI i_1), none, none] [] H :=
  junf_wp (jprog_nf G) (stop := jmem []) (pJ8_append_3__J9 G) 4000 _ _ _ _ h
/-- java/lang/StringBuilder append(I)Ljava/lang/StringBuilder; @0 -/
theorem gJ9_append_3_0 (G : JG) {Rt : JRt} (this : Option Nat) (i_1 : Int32) {H : JHp} (h :
  ∃ (a1 : Nat) (fs2 : List JVal), this = some a1 ∧ job H a1 15 fs2 ∧ /- J8_append_3__J9 -/ ∃ (r4 : Option Nat) (H3 : JHp), jok (jprog G) 202 [jR this, jI i_1] H (.inl (some (jR r4))) H3 ∧
  Rt (.inl (some (jR this))) H3) :
  jwp (jprog G) 203 Rt 0 [some (jR this), some (jI i_1)] [] H :=
  junf_wp (jprog_nf G) (stop := jmem []) (pJ9_append_3 G) 4000 _ _ _ _ h
/-- java/lang/StringLatin1 canEncode(C)Z @0 -/
theorem gJ22_canEncode_0 (G : JG) {Rt : JRt} (i_0 : Int32) {H : JHp} (h :
  ((255 : Int32) < i_0 →
    jbool (0 : Int32) ∧ Rt (.inl (some (jI 0))) H) ∧
  (¬ (255 : Int32) < i_0 →
    jbool (1 : Int32) ∧ Rt (.inl (some (jI 1))) H)) :
  jwp (jprog G) 204 Rt 0 [some (jI i_0)] [] H :=
  junf_wp (jprog_nf G) (stop := jmem []) (pJ22_canEncode G) 4000 _ _ _ _ h
/-- java/lang/AbstractStringBuilder append(C)Ljava/lang/AbstractStringBuilder; @0 -/
theorem gJ8_append_2__J9_0 (G : JG) {Rt : JRt} (this : Option Nat) (i_1 : Int32) {H : JHp} (h :
  ∃ (a1 : Nat) (fs2 : List JVal) (x3 : Int32), this = some a1 ∧ job H a1 15 fs2 ∧ jn fs2 3 = some (jI x3) ∧
  ∃ (a4 : Nat) (fs5 : List JVal), this = some a4 ∧ job H a4 15 fs5 ∧ /- J8_ensureCapacityInternal__J9 -/ ∃ H6 : JHp, jok (jprog G) 193 [jR this, jI (x3 + (1 : Int32))] H (.inl none) H6 ∧
  ∃ (a7 : Nat) (fs8 : List JVal), this = some a7 ∧ job H6 a7 15 fs8 ∧ /- J8_isLatin1__J9 -/ ∃ (x10 : Int32) (H9 : JHp), jok (jprog G) 200 [jR this] H6 (.inl (some (jI x10))) H9 ∧
  (x10 = 0 →
    False) ∧
  (¬ x10 = 0 →
    /- J22_canEncode -/ ∃ (x12 : Int32) (H11 : JHp), jok (jprog G) 204 [jI i_1] H9 (.inl (some (jI x12))) H11 ∧
    (x12 = 0 →
      False) ∧
    (¬ x12 = 0 →
      ∃ (a13 : Nat) (fs14 : List JVal) (r15 : Option Nat), this = some a13 ∧ job H11 a13 15 fs14 ∧ jn fs14 0 = some (jR r15) ∧
      ∃ (a16 : Nat) (fs17 : List JVal) (x18 : Int32), this = some a16 ∧ job H11 a16 15 fs17 ∧ jn fs17 3 = some (jI x18) ∧
      ∃ (a19 : Nat) (fs20 : List JVal) (v21 : JVal), this = some a19 ∧ H11.1 a19 = some (true, jO 15 fs20) ∧ jn fs20 3 = some v21 ∧
      ∃ (a22 n23 : Nat) (f24 : Nat → Int32), r15 = some a22 ∧ (jup H11 a19 (jO 15 (jset fs20 3 (jI (x18 + (1 : Int32)))))).1 a22 = some (true, jA 2 (aI n23 f24)) ∧ vp_in x18 n23 ∧ 
      Rt (.inl (some (jR this))) (jup (jup H11 a19 (jO 15 (jset fs20 3 (jI (x18 + (1 : Int32)))))) a22 (jA 2 (aI n23 (upd f24 (x18).toNatClampNeg (((i_1).toInt8.toInt32).toInt8.toInt32)))))))) :
  jwp (jprog G) 205 Rt 0 [some (jR this), some (jI i_1)] [] H :=
  junf_wp (jprog_nf G) (stop := jmem []) (pJ8_append_2__J9 G) 4000 _ _ _ _ h
/-- java/lang/StringBuilder append(C)Ljava/lang/StringBuilder; @0 -/
theorem gJ9_append_2_0 (G : JG) {Rt : JRt} (this : Option Nat) (i_1 : Int32) {H : JHp} (h :
  ∃ (a1 : Nat) (fs2 : List JVal), this = some a1 ∧ job H a1 15 fs2 ∧ /- J8_append_2__J9 -/ ∃ (r4 : Option Nat) (H3 : JHp), jok (jprog G) 205 [jR this, jI i_1] H (.inl (some (jR r4))) H3 ∧
  Rt (.inl (some (jR this))) H3) :
  jwp (jprog G) 206 Rt 0 [some (jR this), some (jI i_1)] [] H :=
  junf_wp (jprog_nf G) (stop := jmem []) (pJ9_append_2 G) 4000 _ _ _ _ h
/-- java/lang/AbstractStringBuilder getValue()[B @0 -/
theorem gJ8_getValue__J9_0 (G : JG) {Rt : JRt} (this : Option Nat) {H : JHp} (h :
  ∃ (a1 : Nat) (fs2 : List JVal) (r3 : Option Nat), this = some a1 ∧ job H a1 15 fs2 ∧ jn fs2 0 = some (jR r3) ∧
  Rt (.inl (some (jR r3))) H) :
  jwp (jprog G) 207 Rt 0 [some (jR this)] [] H :=
  junf_wp (jprog_nf G) (stop := jmem []) (pJ8_getValue__J9 G) 4000 _ _ _ _ h

/-- java/util/Arrays copyOfRange([BII)[B @0 -/
theorem gJ21_copyOfRange_0 (G : JG) {Rt : JRt} (r_0 : Option Nat) (i_1 : Int32) (i_2 : Int32) {H : JHp} (h :
  (¬ i_1 = 0 →
    /- J21_copyOfRangeByte -/ ∃ (r2 : Option Nat) (H1 : JHp), jok (jprog G) 208 [jR r_0, jI i_1, jI i_2] H (.inl (some (jR r2))) H1 ∧
    Rt (.inl (some (jR r2))) H1) ∧
  (¬ ¬ i_1 = 0 →
    ∃ (a3 : Nat) (A4 : vp_A), r_0 = some a3 ∧ jar H a3 2 A4 ∧
    (i_2 = (nI A4.1) →
      False) ∧
    (¬ i_2 = (nI A4.1) →
      /- J21_copyOfRangeByte -/ ∃ (r6 : Option Nat) (H5 : JHp), jok (jprog G) 208 [jR r_0, jI i_1, jI i_2] H (.inl (some (jR r6))) H5 ∧
      Rt (.inl (some (jR r6))) H5))) :
  jwp (jprog G) 209 Rt 0 [some (jR r_0), some (jI i_1), some (jI i_2)] [] H :=
  junf_wp (jprog_nf G) (stop := jmem []) (pJ21_copyOfRange G) 4000 _ _ _ _ h
/-- java/lang/String <init>(Ljava/lang/AbstractStringBuilder;Ljava/lang/Void;)V @0 -/
theorem gJ10_init_2_0 (G : JG) {Rt : JRt} (this : Option Nat) (r_1 : Option Nat) (r_2 : Option Nat) {H : JHp} (h :
  ∃ a1 : Nat, this = some a1 ∧
  ∃ (a2 : Nat) (fs3 : List JVal), r_1 = some a2 ∧ job H a2 15 fs3 ∧ /- J8_getValue__J9 -/ ∃ (r5 : Option Nat) (H4 : JHp), jok (jprog G) 207 [jR r_1] H (.inl (some (jR r5))) H4 ∧
  ∃ (a6 : Nat) (fs7 : List JVal), r_1 = some a6 ∧ job H4 a6 15 fs7 ∧ /- J9_length -/ ∃ (x9 : Int32) (H8 : JHp), jok (jprog G) 176 [jR r_1] H4 (.inl (some (jI x9))) H8 ∧
  ∃ (a10 : Nat) (fs11 : List JVal), r_1 = some a10 ∧ job H8 a10 15 fs11 ∧ /- J8_isLatin1__J9 -/ ∃ (x13 : Int32) (H12 : JHp), jok (jprog G) 200 [jR r_1] H8 (.inl (some (jI x13))) H12 ∧
  (x13 = 0 →
    ((1 : Int32) = 0 →
      jbyte (1 : Int32) ∧ ∃ (a14 : Nat) (fs15 : List JVal) (v16 : JVal), this = some a14 ∧ H12.1 a14 = some (true, jO 16 fs15) ∧ jn fs15 1 = some v16 ∧
      /- J21_copyOfRange -/ ∃ (r18 : Option Nat) (H17 : JHp), jok (jprog G) 209 [jR r5, jI 0, jI (jshl x9 (1 : Int32))] (jup H12 a14 (jO 16 (jset fs15 1 (jI 1)))) (.inl (some (jR r18))) H17 ∧
      ∃ (a19 : Nat) (fs20 : List JVal) (v21 : JVal), this = some a19 ∧ H17.1 a19 = some (true, jO 16 fs20) ∧ jn fs20 0 = some v21 ∧
      Rt (.inl none) (jup H17 a19 (jO 16 (jset fs20 0 (jR r18))))) ∧
    (¬ (1 : Int32) = 0 →
      ∃ (a22 : Nat) (fs23 : List JVal) (x24 : Int32), r_1 = some a22 ∧ job H12 a22 15 fs23 ∧ jn fs23 2 = some (jI x24) ∧
      (x24 = 0 →
        jbyte (1 : Int32) ∧ ∃ (a25 : Nat) (fs26 : List JVal) (v27 : JVal), this = some a25 ∧ H12.1 a25 = some (true, jO 16 fs26) ∧ jn fs26 1 = some v27 ∧
        /- J21_copyOfRange -/ ∃ (r29 : Option Nat) (H28 : JHp), jok (jprog G) 209 [jR r5, jI 0, jI (jshl x9 (1 : Int32))] (jup H12 a25 (jO 16 (jset fs26 1 (jI 1)))) (.inl (some (jR r29))) H28 ∧
        ∃ (a30 : Nat) (fs31 : List JVal) (v32 : JVal), this = some a30 ∧ H28.1 a30 = some (true, jO 16 fs31) ∧ jn fs31 0 = some v32 ∧
        Rt (.inl none) (jup H28 a30 (jO 16 (jset fs31 0 (jR r29))))) ∧
      (¬ x24 = 0 →
        False))) ∧
  (¬ x13 = 0 →
    jbyte (0 : Int32) ∧ ∃ (a33 : Nat) (fs34 : List JVal) (v35 : JVal), this = some a33 ∧ H12.1 a33 = some (true, jO 16 fs34) ∧ jn fs34 1 = some v35 ∧
    /- J21_copyOfRange -/ ∃ (r37 : Option Nat) (H36 : JHp), jok (jprog G) 209 [jR r5, jI 0, jI x9] (jup H12 a33 (jO 16 (jset fs34 1 (jI 0)))) (.inl (some (jR r37))) H36 ∧
    ∃ (a38 : Nat) (fs39 : List JVal) (v40 : JVal), this = some a38 ∧ H36.1 a38 = some (true, jO 16 fs39) ∧ jn fs39 0 = some v40 ∧
    Rt (.inl none) (jup H36 a38 (jO 16 (jset fs39 0 (jR r37)))))) :
  jwp (jprog G) 210 Rt 0 [some (jR this), some (jR r_1), some (jR r_2), none, none] [] H :=
  junf_wp (jprog_nf G) (stop := jmem []) (pJ10_init_2 G) 4000 _ _ _ _ h
/-- java/lang/String <init>(Ljava/lang/StringBuilder;)V @0 -/
theorem gJ10_init_0 (G : JG) {Rt : JRt} (this : Option Nat) (r_1 : Option Nat) {H : JHp} (h :
  ∃ a1 : Nat, this = some a1 ∧ /- J10_init_2 -/ ∃ H2 : JHp, jok (jprog G) 210 [jR this, jR r_1, jR none] H (.inl none) H2 ∧
  Rt (.inl none) H2) :
  jwp (jprog G) 211 Rt 0 [some (jR this), some (jR r_1)] [] H :=
  junf_wp (jprog_nf G) (stop := jmem []) (pJ10_init G) 4000 _ _ _ _ h
/-- java/lang/StringBuilder toString()Ljava/lang/String; @0 -/
theorem gJ9_toString_0 (G : JG) {Rt : JRt} (this : Option Nat) {H : JHp} (h :
  ∃ a1 : Nat, (some H.2.1) = some a1 ∧ /- J10_init -/ ∃ H2 : JHp, jok (jprog G) 211 [jR (some H.2.1), jR this] (jnew H (jO 16 [jR none, jI 0, jI 0, jI 0]) 4) (.inl none) H2 ∧
  Rt (.inl (some (jR (some H.2.1)))) H2) :
  jwp (jprog G) 212 Rt 0 [some (jR this)] [] H :=
  junf_wp (jprog_nf G) (stop := jmem []) (pJ9_toString G) 4000 _ _ _ _ h
/-- java/lang/AbstractStringBuilder charAt(I)C @0 -/
theorem gJ8_charAt__J9_0 (G : JG) {Rt : JRt} (this : Option Nat) (i_1 : Int32) {H : JHp} (h :
  ∃ (a1 : Nat) (fs2 : List JVal) (x3 : Int32), this = some a1 ∧ job H a1 15 fs2 ∧ jn fs2 1 = some (jI x3) ∧
  ∃ (a4 : Nat) (fs5 : List JVal) (r6 : Option Nat), this = some a4 ∧ job H a4 15 fs5 ∧ jn fs5 0 = some (jR r6) ∧
  ∃ (a7 : Nat) (fs8 : List JVal) (x9 : Int32), this = some a7 ∧ job H a7 15 fs8 ∧ jn fs8 3 = some (jI x9) ∧
  ∃ (a10 : Nat) (A11 : vp_A), r6 = some a10 ∧ jar H a10 2 A11 ∧
  /- J20_min -/ ∃ (x13 : Int32) (H12 : JHp), jok (jprog G) 37 [jI x9, jI (jshr (nI A11.1) x3)] H (.inl (some (jI x13))) H12 ∧
  /- J10_checkIndex -/ ∃ H14 : JHp, jok (jprog G) 186 [jI i_1, jI x13] H12 (.inl none) H14 ∧
  (¬ x3 = 0 →
    False) ∧
  (¬ ¬ x3 = 0 →
    ∃ (a15 n16 : Nat) (f17 : Nat → Int32), r6 = some a15 ∧ jar H14 a15 2 (aI n16 f17) ∧ vp_in i_1 n16 ∧
    jchar (((((f17 (i_1).toNatClampNeg) &&& (255 : Int32))).toUInt32 % 65536).toInt32) ∧ Rt (.inl (some (jI (((((f17 (i_1).toNatClampNeg) &&& (255 : Int32))).toUInt32 % 65536).toInt32)))) H14)) :
  jwp (jprog G) 227 Rt 0 [some (jR this), some (jI i_1), none, none, none] [] H :=
  junf_wp (jprog_nf G) (stop := jmem []) (pJ8_charAt__J9 G) 4000 _ _ _ _ h
/-- java/lang/StringBuilder charAt(I)C @0 -/
theorem gJ9_charAt_0 (G : JG) {Rt : JRt} (this : Option Nat) (i_1 : Int32) {H : JHp} (h :
  ∃ (a1 : Nat) (fs2 : List JVal), this = some a1 ∧ job H a1 15 fs2 ∧ /- J8_charAt__J9 -/ ∃ (x4 : Int32) (H3 : JHp), jok (jprog G) 227 [jR this, jI i_1] H (.inl (some (jI x4))) H3 ∧
  jchar x4 ∧ Rt (.inl (some (jI x4))) H3) :
  jwp (jprog G) 228 Rt 0 [some (jR this), some (jI i_1)] [] H :=
  junf_wp (jprog_nf G) (stop := jmem []) (pJ9_charAt G) 4000 _ _ _ _ h
/-- java/lang/Throwable <init>(Ljava/lang/String;Ljava/lang/Throwable;ZZ)V @0 -/
theorem gJ15_init_3__X9_0 (G : JG) {Rt : JRt} (this : Option Nat) (r_1 : Option Nat) (r_2 : Option Nat) (i_3 : Int32) (i_4 : Int32) {H : JHp} (h :
  ∃ a1 : Nat, this = some a1 ∧
  ∃ (a2 : Nat) (fs3 : List JVal) (v4 : JVal), this = some a2 ∧ H.1 a2 = some (true, jO 9 fs3) ∧ jn fs3 0 = some v4 ∧
  ∃ (a5 : Nat) (fs6 : List JVal) (v7 : JVal), this = some a5 ∧ (jup H a2 (jO 9 (jset fs3 0 (jR this)))).1 a5 = some (true, jO 9 fs6) ∧ jn fs6 1 = some v7 ∧
  ∃ (a8 : Nat) (fs9 : List JVal) (v10 : JVal), this = some a8 ∧ (jup (jup H a2 (jO 9 (jset fs3 0 (jR this)))) a5 (jO 9 (jset fs6 1 (jR (G.2 2))))).1 a8 = some (true, jO 9 fs9) ∧ jn fs9 2 = some v10 ∧
  (i_4 = 0 →
    ∃ (a11 : Nat) (fs12 : List JVal) (v13 : JVal), this = some a11 ∧ (jup (jup (jup H a2 (jO 9 (jset fs3 0 (jR this)))) a5 (jO 9 (jset fs6 1 (jR (G.2 2))))) a8 (jO 9 (jset fs9 2 (jR (G.2 3))))).1 a11 = some (true, jO 9 fs12) ∧ jn fs12 1 = some v13 ∧
    ∃ (a14 : Nat) (fs15 : List JVal) (v16 : JVal), this = some a14 ∧ (jup (jup (jup (jup H a2 (jO 9 (jset fs3 0 (jR this)))) a5 (jO 9 (jset fs6 1 (jR (G.2 2))))) a8 (jO 9 (jset fs9 2 (jR (G.2 3))))) a11 (jO 9 (jset fs12 1 (jR none)))).1 a14 = some (true, jO 9 fs15) ∧ jn fs15 3 = some v16 ∧
    ∃ (a17 : Nat) (fs18 : List JVal) (v19 : JVal), this = some a17 ∧ (jup (jup (jup (jup (jup H a2 (jO 9 (jset fs3 0 (jR this)))) a5 (jO 9 (jset fs6 1 (jR (G.2 2))))) a8 (jO 9 (jset fs9 2 (jR (G.2 3))))) a11 (jO 9 (jset fs12 1 (jR none)))) a14 (jO 9 (jset fs15 3 (jR r_1)))).1 a17 = some (true, jO 9 fs18) ∧ jn fs18 0 = some v19 ∧
    (¬ i_3 = 0 →
      Rt (.inl none) (jup (jup (jup (jup (jup (jup H a2 (jO 9 (jset fs3 0 (jR this)))) a5 (jO 9 (jset fs6 1 (jR (G.2 2))))) a8 (jO 9 (jset fs9 2 (jR (G.2 3))))) a11 (jO 9 (jset fs12 1 (jR none)))) a14 (jO 9 (jset fs15 3 (jR r_1)))) a17 (jO 9 (jset fs18 0 (jR r_2))))) ∧
    (¬ ¬ i_3 = 0 →
      ∃ (a20 : Nat) (fs21 : List JVal) (v22 : JVal), this = some a20 ∧ (jup (jup (jup (jup (jup (jup H a2 (jO 9 (jset fs3 0 (jR this)))) a5 (jO 9 (jset fs6 1 (jR (G.2 2))))) a8 (jO 9 (jset fs9 2 (jR (G.2 3))))) a11 (jO 9 (jset fs12 1 (jR none)))) a14 (jO 9 (jset fs15 3 (jR r_1)))) a17 (jO 9 (jset fs18 0 (jR r_2)))).1 a20 = some (true, jO 9 fs21) ∧ jn fs21 2 = some v22 ∧
      Rt (.inl none) (jup (jup (jup (jup (jup (jup (jup H a2 (jO 9 (jset fs3 0 (jR this)))) a5 (jO 9 (jset fs6 1 (jR (G.2 2))))) a8 (jO 9 (jset fs9 2 (jR (G.2 3))))) a11 (jO 9 (jset fs12 1 (jR none)))) a14 (jO 9 (jset fs15 3 (jR r_1)))) a17 (jO 9 (jset fs18 0 (jR r_2)))) a20 (jO 9 (jset fs21 2 (jR none)))))) ∧
  (¬ i_4 = 0 →
    False)) :
  jwp (jprog G) 231 Rt 0 [some (jR this), some (jR r_1), some (jR r_2), some (jI i_3), some (jI i_4)] [] H :=
  junf_wp (jprog_nf G) (stop := jmem []) (pJ15_init_3__X9 G) 4000 _ _ _ _ h
/-- java/lang/Exception <init>(Ljava/lang/String;Ljava/lang/Throwable;ZZ)V @0 -/
theorem gJ16_init_2__X9_0 (G : JG) {Rt : JRt} (this : Option Nat) (r_1 : Option Nat) (r_2 : Option Nat) (i_3 : Int32) (i_4 : Int32) {H : JHp} (h :
  ∃ a1 : Nat, this = some a1 ∧ /- J15_init_3__X9 -/ ∃ H2 : JHp, jok (jprog G) 231 [jR this, jR r_1, jR r_2, jI i_3, jI i_4] H (.inl none) H2 ∧
  Rt (.inl none) H2) :
  jwp (jprog G) 232 Rt 0 [some (jR this), some (jR r_1), some (jR r_2), some (jI i_3), some (jI i_4)] [] H :=
  junf_wp (jprog_nf G) (stop := jmem []) (pJ16_init_2__X9 G) 4000 _ _ _ _ h
/-- java/util/LinkedList size()I @0 -/
theorem gJ36_size_0 (G : JG) {Rt : JRt} (this : Option Nat) {H : JHp} (h :
  ∃ (a1 : Nat) (fs2 : List JVal) (x3 : Int32), this = some a1 ∧ job H a1 27 fs2 ∧ jn fs2 1 = some (jI x3) ∧
  Rt (.inl (some (jI x3))) H) :
  jwp (jprog G) 243 Rt 0 [some (jR this)] [] H :=
  junf_wp (jprog_nf G) (stop := jmem []) (pJ36_size G) 4000 _ _ _ _ h
/-- java/util/AbstractCollection isEmpty()Z @0 -/
theorem gJ0_isEmpty__J36_0 (G : JG) {Rt : JRt} (this : Option Nat) {H : JHp} (h :
  ∃ (a1 : Nat) (fs2 : List JVal), this = some a1 ∧ job H a1 27 fs2 ∧ /- J36_size -/ ∃ (x4 : Int32) (H3 : JHp), jok (jprog G) 243 [jR this] H (.inl (some (jI x4))) H3 ∧
  (¬ x4 = 0 →
    jbool (0 : Int32) ∧ Rt (.inl (some (jI 0))) H3) ∧
  (¬ ¬ x4 = 0 →
    jbool (1 : Int32) ∧ Rt (.inl (some (jI 1))) H3)) :
  jwp (jprog G) 244 Rt 0 [some (jR this)] [] H :=
  junf_wp (jprog_nf G) (stop := jmem []) (pJ0_isEmpty__J36 G) 4000 _ _ _ _ h
/-- java/util/LinkedList unlinkFirst(Ljava/util/LinkedList$Node;)Ljava/lang/Object; @0 -/
theorem gJ36_unlinkFirst_0 (G : JG) {Rt : JRt} (this : Option Nat) (r_1 : Option Nat) {H : JHp} (h :
  ∃ (a1 : Nat) (fs2 : List JVal) (r3 : Option Nat), r_1 = some a1 ∧ job H a1 28 fs2 ∧ jn fs2 0 = some (jR r3) ∧
  ∃ (a4 : Nat) (fs5 : List JVal) (r6 : Option Nat), r_1 = some a4 ∧ job H a4 28 fs5 ∧ jn fs5 1 = some (jR r6) ∧
  ∃ (a7 : Nat) (fs8 : List JVal) (v9 : JVal), r_1 = some a7 ∧ H.1 a7 = some (true, jO 28 fs8) ∧ jn fs8 0 = some v9 ∧
  ∃ (a10 : Nat) (fs11 : List JVal) (v12 : JVal), r_1 = some a10 ∧ (jup H a7 (jO 28 (jset fs8 0 (jR none)))).1 a10 = some (true, jO 28 fs11) ∧ jn fs11 1 = some v12 ∧
  ∃ (a13 : Nat) (fs14 : List JVal) (v15 : JVal), this = some a13 ∧ (jup (jup H a7 (jO 28 (jset fs8 0 (jR none)))) a10 (jO 28 (jset fs11 1 (jR none)))).1 a13 = some (true, jO 27 fs14) ∧ jn fs14 2 = some v15 ∧
  ((¬ r6 = none) →
    ∃ (a16 : Nat) (fs17 : List JVal) (v18 : JVal), r6 = some a16 ∧ (jup (jup (jup H a7 (jO 28 (jset fs8 0 (jR none)))) a10 (jO 28 (jset fs11 1 (jR none)))) a13 (jO 27 (jset fs14 2 (jR r6)))).1 a16 = some (true, jO 28 fs17) ∧ jn fs17 2 = some v18 ∧
    ∃ (a19 : Nat) (fs20 : List JVal) (x21 : Int32), this = some a19 ∧ job (jup (jup (jup (jup H a7 (jO 28 (jset fs8 0 (jR none)))) a10 (jO 28 (jset fs11 1 (jR none)))) a13 (jO 27 (jset fs14 2 (jR r6)))) a16 (jO 28 (jset fs17 2 (jR none)))) a19 27 fs20 ∧ jn fs20 1 = some (jI x21) ∧
    ∃ (a22 : Nat) (fs23 : List JVal) (v24 : JVal), this = some a22 ∧ (jup (jup (jup (jup H a7 (jO 28 (jset fs8 0 (jR none)))) a10 (jO 28 (jset fs11 1 (jR none)))) a13 (jO 27 (jset fs14 2 (jR r6)))) a16 (jO 28 (jset fs17 2 (jR none)))).1 a22 = some (true, jO 27 fs23) ∧ jn fs23 1 = some v24 ∧
    ∃ (a25 : Nat) (fs26 : List JVal) (x27 : Int32), this = some a25 ∧ job (jup (jup (jup (jup (jup H a7 (jO 28 (jset fs8 0 (jR none)))) a10 (jO 28 (jset fs11 1 (jR none)))) a13 (jO 27 (jset fs14 2 (jR r6)))) a16 (jO 28 (jset fs17 2 (jR none)))) a22 (jO 27 (jset fs23 1 (jI (x21 - (1 : Int32)))))) a25 27 fs26 ∧ jn fs26 0 = some (jI x27) ∧
    ∃ (a28 : Nat) (fs29 : List JVal) (v30 : JVal), this = some a28 ∧ (jup (jup (jup (jup (jup H a7 (jO 28 (jset fs8 0 (jR none)))) a10 (jO 28 (jset fs11 1 (jR none)))) a13 (jO 27 (jset fs14 2 (jR r6)))) a16 (jO 28 (jset fs17 2 (jR none)))) a22 (jO 27 (jset fs23 1 (jI (x21 - (1 : Int32)))))).1 a28 = some (true, jO 27 fs29) ∧ jn fs29 0 = some v30 ∧
    Rt (.inl (some (jR r3))) (jup (jup (jup (jup (jup (jup H a7 (jO 28 (jset fs8 0 (jR none)))) a10 (jO 28 (jset fs11 1 (jR none)))) a13 (jO 27 (jset fs14 2 (jR r6)))) a16 (jO 28 (jset fs17 2 (jR none)))) a22 (jO 27 (jset fs23 1 (jI (x21 - (1 : Int32)))))) a28 (jO 27 (jset fs29 0 (jI (x27 + (1 : Int32))))))) ∧
  (¬ (¬ r6 = none) →
    ∃ (a31 : Nat) (fs32 : List JVal) (v33 : JVal), this = some a31 ∧ (jup (jup (jup H a7 (jO 28 (jset fs8 0 (jR none)))) a10 (jO 28 (jset fs11 1 (jR none)))) a13 (jO 27 (jset fs14 2 (jR r6)))).1 a31 = some (true, jO 27 fs32) ∧ jn fs32 3 = some v33 ∧
    ∃ (a34 : Nat) (fs35 : List JVal) (x36 : Int32), this = some a34 ∧ job (jup (jup (jup (jup H a7 (jO 28 (jset fs8 0 (jR none)))) a10 (jO 28 (jset fs11 1 (jR none)))) a13 (jO 27 (jset fs14 2 (jR r6)))) a31 (jO 27 (jset fs32 3 (jR none)))) a34 27 fs35 ∧ jn fs35 1 = some (jI x36) ∧
    ∃ (a37 : Nat) (fs38 : List JVal) (v39 : JVal), this = some a37 ∧ (jup (jup (jup (jup H a7 (jO 28 (jset fs8 0 (jR none)))) a10 (jO 28 (jset fs11 1 (jR none)))) a13 (jO 27 (jset fs14 2 (jR r6)))) a31 (jO 27 (jset fs32 3 (jR none)))).1 a37 = some (true, jO 27 fs38) ∧ jn fs38 1 = some v39 ∧
    ∃ (a40 : Nat) (fs41 : List JVal) (x42 : Int32), this = some a40 ∧ job (jup (jup (jup (jup (jup H a7 (jO 28 (jset fs8 0 (jR none)))) a10 (jO 28 (jset fs11 1 (jR none)))) a13 (jO 27 (jset fs14 2 (jR r6)))) a31 (jO 27 (jset fs32 3 (jR none)))) a37 (jO 27 (jset fs38 1 (jI (x36 - (1 : Int32)))))) a40 27 fs41 ∧ jn fs41 0 = some (jI x42) ∧
    ∃ (a43 : Nat) (fs44 : List JVal) (v45 : JVal), this = some a43 ∧ (jup (jup (jup (jup (jup H a7 (jO 28 (jset fs8 0 (jR none)))) a10 (jO 28 (jset fs11 1 (jR none)))) a13 (jO 27 (jset fs14 2 (jR r6)))) a31 (jO 27 (jset fs32 3 (jR none)))) a37 (jO 27 (jset fs38 1 (jI (x36 - (1 : Int32)))))).1 a43 = some (true, jO 27 fs44) ∧ jn fs44 0 = some v45 ∧
    Rt (.inl (some (jR r3))) (jup (jup (jup (jup (jup (jup H a7 (jO 28 (jset fs8 0 (jR none)))) a10 (jO 28 (jset fs11 1 (jR none)))) a13 (jO 27 (jset fs14 2 (jR r6)))) a31 (jO 27 (jset fs32 3 (jR none)))) a37 (jO 27 (jset fs38 1 (jI (x36 - (1 : Int32)))))) a43 (jO 27 (jset fs44 0 (jI (x42 + (1 : Int32)))))))) :
  jwp (jprog G) 245 Rt 0 [some (jR this), some (jR r_1), none, none] [] H :=
  junf_wp (jprog_nf G) (stop := jmem []) (pJ36_unlinkFirst G) 4000 _ _ _ _ h
/-- java/util/LinkedList removeFirst()Ljava/lang/Object; @0 -/
theorem gJ36_removeFirst_0 (G : JG) {Rt : JRt} (this : Option Nat) {H : JHp} (h :
  ∃ (a1 : Nat) (fs2 : List JVal) (r3 : Option Nat), this = some a1 ∧ job H a1 27 fs2 ∧ jn fs2 2 = some (jR r3) ∧
  ((¬ r3 = none) →
    ∃ (a4 : Nat) (fs5 : List JVal), this = some a4 ∧ job H a4 27 fs5 ∧ /- J36_unlinkFirst -/ ∃ (r7 : Option Nat) (H6 : JHp), jok (jprog G) 245 [jR this, jR r3] H (.inl (some (jR r7))) H6 ∧
    Rt (.inl (some (jR r7))) H6) ∧
  (¬ (¬ r3 = none) →
    False)) :
  jwp (jprog G) 246 Rt 0 [some (jR this), none] [] H :=
  junf_wp (jprog_nf G) (stop := jmem []) (pJ36_removeFirst G) 4000 _ _ _ _ h
/-- java/lang/Throwable <init>(Ljava/lang/String;Ljava/lang/Throwable;ZZ)V @0 -/
theorem gJ15_init_3__X5_0 (G : JG) {Rt : JRt} (this : Option Nat) (r_1 : Option Nat) (r_2 : Option Nat) (i_3 : Int32) (i_4 : Int32) {H : JHp} (h :
  ∃ a1 : Nat, this = some a1 ∧
  ∃ (a2 : Nat) (fs3 : List JVal) (v4 : JVal), this = some a2 ∧ H.1 a2 = some (true, jO 5 fs3) ∧ jn fs3 0 = some v4 ∧
  ∃ (a5 : Nat) (fs6 : List JVal) (v7 : JVal), this = some a5 ∧ (jup H a2 (jO 5 (jset fs3 0 (jR this)))).1 a5 = some (true, jO 5 fs6) ∧ jn fs6 1 = some v7 ∧
  ∃ (a8 : Nat) (fs9 : List JVal) (v10 : JVal), this = some a8 ∧ (jup (jup H a2 (jO 5 (jset fs3 0 (jR this)))) a5 (jO 5 (jset fs6 1 (jR (G.2 2))))).1 a8 = some (true, jO 5 fs9) ∧ jn fs9 2 = some v10 ∧
  (i_4 = 0 →
    ∃ (a11 : Nat) (fs12 : List JVal) (v13 : JVal), this = some a11 ∧ (jup (jup (jup H a2 (jO 5 (jset fs3 0 (jR this)))) a5 (jO 5 (jset fs6 1 (jR (G.2 2))))) a8 (jO 5 (jset fs9 2 (jR (G.2 3))))).1 a11 = some (true, jO 5 fs12) ∧ jn fs12 1 = some v13 ∧
    ∃ (a14 : Nat) (fs15 : List JVal) (v16 : JVal), this = some a14 ∧ (jup (jup (jup (jup H a2 (jO 5 (jset fs3 0 (jR this)))) a5 (jO 5 (jset fs6 1 (jR (G.2 2))))) a8 (jO 5 (jset fs9 2 (jR (G.2 3))))) a11 (jO 5 (jset fs12 1 (jR none)))).1 a14 = some (true, jO 5 fs15) ∧ jn fs15 3 = some v16 ∧
    ∃ (a17 : Nat) (fs18 : List JVal) (v19 : JVal), this = some a17 ∧ (jup (jup (jup (jup (jup H a2 (jO 5 (jset fs3 0 (jR this)))) a5 (jO 5 (jset fs6 1 (jR (G.2 2))))) a8 (jO 5 (jset fs9 2 (jR (G.2 3))))) a11 (jO 5 (jset fs12 1 (jR none)))) a14 (jO 5 (jset fs15 3 (jR r_1)))).1 a17 = some (true, jO 5 fs18) ∧ jn fs18 0 = some v19 ∧
    (¬ i_3 = 0 →
      Rt (.inl none) (jup (jup (jup (jup (jup (jup H a2 (jO 5 (jset fs3 0 (jR this)))) a5 (jO 5 (jset fs6 1 (jR (G.2 2))))) a8 (jO 5 (jset fs9 2 (jR (G.2 3))))) a11 (jO 5 (jset fs12 1 (jR none)))) a14 (jO 5 (jset fs15 3 (jR r_1)))) a17 (jO 5 (jset fs18 0 (jR r_2))))) ∧
    (¬ ¬ i_3 = 0 →
      ∃ (a20 : Nat) (fs21 : List JVal) (v22 : JVal), this = some a20 ∧ (jup (jup (jup (jup (jup (jup H a2 (jO 5 (jset fs3 0 (jR this)))) a5 (jO 5 (jset fs6 1 (jR (G.2 2))))) a8 (jO 5 (jset fs9 2 (jR (G.2 3))))) a11 (jO 5 (jset fs12 1 (jR none)))) a14 (jO 5 (jset fs15 3 (jR r_1)))) a17 (jO 5 (jset fs18 0 (jR r_2)))).1 a20 = some (true, jO 5 fs21) ∧ jn fs21 2 = some v22 ∧
      Rt (.inl none) (jup (jup (jup (jup (jup (jup (jup H a2 (jO 5 (jset fs3 0 (jR this)))) a5 (jO 5 (jset fs6 1 (jR (G.2 2))))) a8 (jO 5 (jset fs9 2 (jR (G.2 3))))) a11 (jO 5 (jset fs12 1 (jR none)))) a14 (jO 5 (jset fs15 3 (jR r_1)))) a17 (jO 5 (jset fs18 0 (jR r_2)))) a20 (jO 5 (jset fs21 2 (jR none)))))) ∧
  (¬ i_4 = 0 →
    False)) :
  jwp (jprog G) 248 Rt 0 [some (jR this), some (jR r_1), some (jR r_2), some (jI i_3), some (jI i_4)] [] H :=
  junf_wp (jprog_nf G) (stop := jmem []) (pJ15_init_3__X5 G) 4000 _ _ _ _ h
/-- java/lang/Exception <init>(Ljava/lang/String;Ljava/lang/Throwable;ZZ)V @0 -/
theorem gJ16_init_2__X5_0 (G : JG) {Rt : JRt} (this : Option Nat) (r_1 : Option Nat) (r_2 : Option Nat) (i_3 : Int32) (i_4 : Int32) {H : JHp} (h :
  ∃ a1 : Nat, this = some a1 ∧ /- J15_init_3__X5 -/ ∃ H2 : JHp, jok (jprog G) 248 [jR this, jR r_1, jR r_2, jI i_3, jI i_4] H (.inl none) H2 ∧
  Rt (.inl none) H2) :
  jwp (jprog G) 249 Rt 0 [some (jR this), some (jR r_1), some (jR r_2), some (jI i_3), some (jI i_4)] [] H :=
  junf_wp (jprog_nf G) (stop := jmem []) (pJ16_init_2__X5 G) 4000 _ _ _ _ h
/-- java/util/PriorityQueue clear()V @0 -/
theorem gJ4_clear_0 (G : JG) {Rt : JRt} (this : Option Nat) {H : JHp} (h :
  ∃ (a1 : Nat) (fs2 : List JVal) (x3 : Int32), this = some a1 ∧ job H a1 12 fs2 ∧ jn fs2 3 = some (jI x3) ∧
  ∃ (a4 : Nat) (fs5 : List JVal) (v6 : JVal), this = some a4 ∧ H.1 a4 = some (true, jO 12 fs5) ∧ jn fs5 3 = some v6 ∧
  ∃ (a7 : Nat) (fs8 : List JVal) (r9 : Option Nat), this = some a7 ∧ job (jup H a4 (jO 12 (jset fs5 3 (jI (x3 + (1 : Int32)))))) a7 12 fs8 ∧ jn fs8 0 = some (jR r9) ∧
  ∃ (a10 : Nat) (fs11 : List JVal) (x12 : Int32), this = some a10 ∧ job (jup H a4 (jO 12 (jset fs5 3 (jI (x3 + (1 : Int32)))))) a10 12 fs11 ∧ jn fs11 1 = some (jI x12) ∧
  jwp (jprog G) 262 Rt 22 [some (jR this), some (jR r9), some (jI 0), some (jI x12)] [] (jup H a4 (jO 12 (jset fs5 3 (jI (x3 + (1 : Int32))))))) :
  jwp (jprog G) 262 Rt 0 [some (jR this), none, none, none] [] H :=
  junf_wp (jprog_nf G) (stop := jmem [22]) (pJ4_clear G) 4000 _ _ _ _ h
/-- java/util/PriorityQueue clear()V @22 -/
theorem gJ4_clear_22 (G : JG) {Rt : JRt} (r_0 : Option Nat) (r_1 : Option Nat) (i_2 : Int32) (i_3 : Int32) {H : JHp} (h :
  (i_3 ≤ i_2 →
    ∃ (a1 : Nat) (fs2 : List JVal) (v3 : JVal), r_0 = some a1 ∧ H.1 a1 = some (true, jO 12 fs2) ∧ jn fs2 1 = some v3 ∧
    Rt (.inl none) (jup H a1 (jO 12 (jset fs2 1 (jI 0))))) ∧
  (¬ i_3 ≤ i_2 →
    ∃ (a4 n5 : Nat) (f6 : Nat → Option Nat), r_1 = some a4 ∧ H.1 a4 = some (true, jA 3 (aR n5 f6)) ∧ vp_in i_2 n5 ∧ (∀ b, none = some b → jobn H b) ∧ 
    jwp (jprog G) 262 Rt 22 [some (jR r_0), some (jR r_1), some (jI (i_2 + 1)), some (jI i_3)] [] (jup H a4 (jA 3 (aR n5 (va_up f6 (i_2).toNatClampNeg none)))))) :
  jwp (jprog G) 262 Rt 22 [some (jR r_0), some (jR r_1), some (jI i_2), some (jI i_3)] [] H :=
  junf_wp (jprog_nf G) (stop := jmem [22]) (pJ4_clear G) 4000 _ _ _ _ h
/-- java/util/PriorityQueue peek()Ljava/lang/Object; @0 -/
theorem gJ4_peek_0 (G : JG) {Rt : JRt} (this : Option Nat) {H : JHp} (h :
  ∃ (a1 : Nat) (fs2 : List JVal) (r3 : Option Nat), this = some a1 ∧ job H a1 12 fs2 ∧ jn fs2 0 = some (jR r3) ∧
  ∃ (a4 n5 : Nat) (f6 : Nat → Option Nat), r3 = some a4 ∧ jar H a4 3 (aR n5 f6) ∧ vp_in (0 : Int32) n5 ∧
  Rt (.inl (some (jR (f6 ((0 : Int32)).toNatClampNeg)))) H) :
  jwp (jprog G) 267 Rt 0 [some (jR this)] [] H :=
  junf_wp (jprog_nf G) (stop := jmem []) (pJ4_peek G) 4000 _ _ _ _ h
/-- java/util/AbstractCollection <init>()V @0 -/
theorem gJ0_init__J38_0 (G : JG) {Rt : JRt} (this : Option Nat) {H : JHp} (h :
  ∃ a1 : Nat, this = some a1 ∧
  Rt (.inl none) H) :
  jwp (jprog G) 269 Rt 0 [some (jR this)] [] H :=
  junf_wp (jprog_nf G) (stop := jmem []) (pJ0_init__J38 G) 4000 _ _ _ _ h
/-- java/util/TreeMap$Values <init>(Ljava/util/TreeMap;)V @0 -/
theorem gJ38_init_0 (G : JG) {Rt : JRt} (this : Option Nat) (r_1 : Option Nat) {H : JHp} (h :
  ∃ (a1 : Nat) (fs2 : List JVal) (v3 : JVal), this = some a1 ∧ H.1 a1 = some (true, jO 29 fs2) ∧ jn fs2 0 = some v3 ∧
  ∃ a4 : Nat, this = some a4 ∧ /- J0_init__J38 -/ ∃ H5 : JHp, jok (jprog G) 269 [jR this] (jup H a1 (jO 29 (jset fs2 0 (jR r_1)))) (.inl none) H5 ∧
  Rt (.inl none) H5) :
  jwp (jprog G) 270 Rt 0 [some (jR this), some (jR r_1)] [] H :=
  junf_wp (jprog_nf G) (stop := jmem []) (pJ38_init G) 4000 _ _ _ _ h
/-- java/util/TreeMap values()Ljava/util/Collection; @0 -/
theorem gJ6_values_0 (G : JG) {Rt : JRt} (this : Option Nat) {H : JHp} (h :
  ∃ (a1 : Nat) (fs2 : List JVal) (r3 : Option Nat), this = some a1 ∧ job H a1 13 fs2 ∧ jn fs2 1 = some (jR r3) ∧
  ((¬ r3 = none) →
    Rt (.inl (some (jR r3))) H) ∧
  (¬ (¬ r3 = none) →
    ∃ a4 : Nat, (some H.2.1) = some a4 ∧ /- J38_init -/ ∃ H5 : JHp, jok (jprog G) 270 [jR (some H.2.1), jR this] (jnew H (jO 29 [jR none]) 1) (.inl none) H5 ∧
    ∃ (a6 : Nat) (fs7 : List JVal) (v8 : JVal), this = some a6 ∧ H5.1 a6 = some (true, jO 13 fs7) ∧ jn fs7 1 = some v8 ∧
    Rt (.inl (some (jR (some H.2.1)))) (jup H5 a6 (jO 13 (jset fs7 1 (jR (some H.2.1))))))) :
  jwp (jprog G) 271 Rt 0 [some (jR this), none] [] H :=
  junf_wp (jprog_nf G) (stop := jmem []) (pJ6_values G) 4000 _ _ _ _ h
/-- java/util/TreeMap$PrivateEntryIterator <init>(Ljava/util/TreeMap;Ljava/util/TreeMap$Entry;)V @0 -/
theorem gJ30_init__J42_0 (G : JG) {Rt : JRt} (this : Option Nat) (r_1 : Option Nat) (r_2 : Option Nat) {H : JHp} (h :
  ∃ (a1 : Nat) (fs2 : List JVal) (v3 : JVal), this = some a1 ∧ H.1 a1 = some (true, jO 32 fs2) ∧ jn fs2 3 = some v3 ∧
  ∃ a4 : Nat, this = some a4 ∧
  ∃ (a5 : Nat) (fs6 : List JVal) (x7 : Int32), r_1 = some a5 ∧ job (jup H a1 (jO 32 (jset fs2 3 (jR r_1)))) a5 13 fs6 ∧ jn fs6 5 = some (jI x7) ∧
  ∃ (a8 : Nat) (fs9 : List JVal) (v10 : JVal), this = some a8 ∧ (jup H a1 (jO 32 (jset fs2 3 (jR r_1)))).1 a8 = some (true, jO 32 fs9) ∧ jn fs9 2 = some v10 ∧
  ∃ (a11 : Nat) (fs12 : List JVal) (v13 : JVal), this = some a11 ∧ (jup (jup H a1 (jO 32 (jset fs2 3 (jR r_1)))) a8 (jO 32 (jset fs9 2 (jI x7)))).1 a11 = some (true, jO 32 fs12) ∧ jn fs12 1 = some v13 ∧
  ∃ (a14 : Nat) (fs15 : List JVal) (v16 : JVal), this = some a14 ∧ (jup (jup (jup H a1 (jO 32 (jset fs2 3 (jR r_1)))) a8 (jO 32 (jset fs9 2 (jI x7)))) a11 (jO 32 (jset fs12 1 (jR none)))).1 a14 = some (true, jO 32 fs15) ∧ jn fs15 0 = some v16 ∧
  Rt (.inl none) (jup (jup (jup (jup H a1 (jO 32 (jset fs2 3 (jR r_1)))) a8 (jO 32 (jset fs9 2 (jI x7)))) a11 (jO 32 (jset fs12 1 (jR none)))) a14 (jO 32 (jset fs15 0 (jR r_2))))) :
  jwp (jprog G) 272 Rt 0 [some (jR this), some (jR r_1), some (jR r_2)] [] H :=
  junf_wp (jprog_nf G) (stop := jmem []) (pJ30_init__J42 G) 4000 _ _ _ _ h
/-- java/util/TreeMap$ValueIterator <init>(Ljava/util/TreeMap;Ljava/util/TreeMap$Entry;)V @0 -/
theorem gJ42_init_0 (G : JG) {Rt : JRt} (this : Option Nat) (r_1 : Option Nat) (r_2 : Option Nat) {H : JHp} (h :
  ∃ a1 : Nat, this = some a1 ∧ /- J30_init__J42 -/ ∃ H2 : JHp, jok (jprog G) 272 [jR this, jR r_1, jR r_2] H (.inl none) H2 ∧
  Rt (.inl none) H2) :
  jwp (jprog G) 273 Rt 0 [some (jR this), some (jR r_1), some (jR r_2)] [] H :=
  junf_wp (jprog_nf G) (stop := jmem []) (pJ42_init G) 4000 _ _ _ _ h
/-- java/util/TreeMap$Values iterator()Ljava/util/Iterator; @0 -/
theorem gJ38_iterator_0 (G : JG) {Rt : JRt} (this : Option Nat) {H : JHp} (h :
  ∃ (a1 : Nat) (fs2 : List JVal) (r3 : Option Nat), this = some a1 ∧ job (jnew H (jO 32 [jR none, jR none, jI 0, jR none]) 4) a1 29 fs2 ∧ jn fs2 0 = some (jR r3) ∧
  ∃ (a4 : Nat) (fs5 : List JVal) (r6 : Option Nat), this = some a4 ∧ job (jnew H (jO 32 [jR none, jR none, jI 0, jR none]) 4) a4 29 fs5 ∧ jn fs5 0 = some (jR r6) ∧
  ∃ (a7 : Nat) (fs8 : List JVal), r6 = some a7 ∧ job (jnew H (jO 32 [jR none, jR none, jI 0, jR none]) 4) a7 13 fs8 ∧ /- J6_getFirstEntry -/ ∃ (r10 : Option Nat) (H9 : JHp), jok (jprog G) 52 [jR r6] (jnew H (jO 32 [jR none, jR none, jI 0, jR none]) 4) (.inl (some (jR r10))) H9 ∧
  ∃ a11 : Nat, (some H.2.1) = some a11 ∧ /- J42_init -/ ∃ H12 : JHp, jok (jprog G) 273 [jR (some H.2.1), jR r3, jR r10] H9 (.inl none) H12 ∧
  Rt (.inl (some (jR (some H.2.1)))) H12) :
  jwp (jprog G) 274 Rt 0 [some (jR this)] [] H :=
  junf_wp (jprog_nf G) (stop := jmem []) (pJ38_iterator G) 4000 _ _ _ _ h
/-- java/util/TreeMap$PrivateEntryIterator hasNext()Z @0 -/
theorem gJ30_hasNext__J42_0 (G : JG) {Rt : JRt} (this : Option Nat) {H : JHp} (h :
  ∃ (a1 : Nat) (fs2 : List JVal) (r3 : Option Nat), this = some a1 ∧ job H a1 32 fs2 ∧ jn fs2 0 = some (jR r3) ∧
  (r3 = none →
    jbool (0 : Int32) ∧ Rt (.inl (some (jI 0))) H) ∧
  (¬ r3 = none →
    jbool (1 : Int32) ∧ Rt (.inl (some (jI 1))) H)) :
  jwp (jprog G) 275 Rt 0 [some (jR this)] [] H :=
  junf_wp (jprog_nf G) (stop := jmem []) (pJ30_hasNext__J42 G) 4000 _ _ _ _ h
/-- java/util/TreeMap$PrivateEntryIterator nextEntry()Ljava/util/TreeMap$Entry; @0 -/
theorem gJ30_nextEntry__J42_0 (G : JG) {Rt : JRt} (this : Option Nat) {H : JHp} (h :
  ∃ (a1 : Nat) (fs2 : List JVal) (r3 : Option Nat), this = some a1 ∧ job H a1 32 fs2 ∧ jn fs2 0 = some (jR r3) ∧
  ((¬ r3 = none) →
    ∃ (a4 : Nat) (fs5 : List JVal) (r6 : Option Nat), this = some a4 ∧ job H a4 32 fs5 ∧ jn fs5 3 = some (jR r6) ∧
    ∃ (a7 : Nat) (fs8 : List JVal) (x9 : Int32), r6 = some a7 ∧ job H a7 13 fs8 ∧ jn fs8 5 = some (jI x9) ∧
    ∃ (a10 : Nat) (fs11 : List JVal) (x12 : Int32), this = some a10 ∧ job H a10 32 fs11 ∧ jn fs11 2 = some (jI x12) ∧
    (x9 = x12 →
      /- J6_successor -/ ∃ (r14 : Option Nat) (H13 : JHp), jok (jprog G) 58 [jR r3] H (.inl (some (jR r14))) H13 ∧
      ∃ (a15 : Nat) (fs16 : List JVal) (v17 : JVal), this = some a15 ∧ H13.1 a15 = some (true, jO 32 fs16) ∧ jn fs16 0 = some v17 ∧
      ∃ (a18 : Nat) (fs19 : List JVal) (v20 : JVal), this = some a18 ∧ (jup H13 a15 (jO 32 (jset fs16 0 (jR r14)))).1 a18 = some (true, jO 32 fs19) ∧ jn fs19 1 = some v20 ∧
      Rt (.inl (some (jR r3))) (jup (jup H13 a15 (jO 32 (jset fs16 0 (jR r14)))) a18 (jO 32 (jset fs19 1 (jR r3))))) ∧
    (¬ x9 = x12 →
      False)) ∧
  (¬ (¬ r3 = none) →
    False)) :
  jwp (jprog G) 276 Rt 0 [some (jR this), none] [] H :=
  junf_wp (jprog_nf G) (stop := jmem []) (pJ30_nextEntry__J42 G) 4000 _ _ _ _ h
/-- java/util/TreeMap$ValueIterator next()Ljava/lang/Object; @0 -/
theorem gJ42_next_0 (G : JG) {Rt : JRt} (this : Option Nat) {H : JHp} (h :
  ∃ (a1 : Nat) (fs2 : List JVal), this = some a1 ∧ job H a1 32 fs2 ∧ /- J30_nextEntry__J42 -/ ∃ (r4 : Option Nat) (H3 : JHp), jok (jprog G) 276 [jR this] H (.inl (some (jR r4))) H3 ∧
  ∃ (a5 : Nat) (fs6 : List JVal) (r7 : Option Nat), r4 = some a5 ∧ job H3 a5 25 fs6 ∧ jn fs6 1 = some (jR r7) ∧
  Rt (.inl (some (jR r7))) H3) :
  jwp (jprog G) 277 Rt 0 [some (jR this)] [] H :=
  junf_wp (jprog_nf G) (stop := jmem []) (pJ42_next G) 4000 _ _ _ _ h
/-- java/util/TreeMap clear()V @0 -/
theorem gJ6_clear_0 (G : JG) {Rt : JRt} (this : Option Nat) {H : JHp} (h :
  ∃ (a1 : Nat) (fs2 : List JVal) (x3 : Int32), this = some a1 ∧ job H a1 13 fs2 ∧ jn fs2 5 = some (jI x3) ∧
  ∃ (a4 : Nat) (fs5 : List JVal) (v6 : JVal), this = some a4 ∧ H.1 a4 = some (true, jO 13 fs5) ∧ jn fs5 5 = some v6 ∧
  ∃ (a7 : Nat) (fs8 : List JVal) (v9 : JVal), this = some a7 ∧ (jup H a4 (jO 13 (jset fs5 5 (jI (x3 + (1 : Int32)))))).1 a7 = some (true, jO 13 fs8) ∧ jn fs8 4 = some v9 ∧
  ∃ (a10 : Nat) (fs11 : List JVal) (v12 : JVal), this = some a10 ∧ (jup (jup H a4 (jO 13 (jset fs5 5 (jI (x3 + (1 : Int32)))))) a7 (jO 13 (jset fs8 4 (jI 0)))).1 a10 = some (true, jO 13 fs11) ∧ jn fs11 3 = some v12 ∧
  Rt (.inl none) (jup (jup (jup H a4 (jO 13 (jset fs5 5 (jI (x3 + (1 : Int32)))))) a7 (jO 13 (jset fs8 4 (jI 0)))) a10 (jO 13 (jset fs11 3 (jR none))))) :
  jwp (jprog G) 280 Rt 0 [some (jR this)] [] H :=
  junf_wp (jprog_nf G) (stop := jmem []) (pJ6_clear G) 4000 _ _ _ _ h
/-- java/util/Arrays rangeCheck(III)V @0 -/
theorem gJ21_rangeCheck_0 (G : JG) {Rt : JRt} (i_0 : Int32) (i_1 : Int32) (i_2 : Int32) {H : JHp} (h :
  (i_1 ≤ i_2 →
    (0 ≤ i_1 →
      (i_2 ≤ i_0 →
        Rt (.inl none) H) ∧
      (¬ i_2 ≤ i_0 →
        False)) ∧
    (¬ 0 ≤ i_1 →
      False)) ∧
  (¬ i_1 ≤ i_2 →
    False)) :
  jwp (jprog G) 285 Rt 0 [some (jI i_0), some (jI i_1), some (jI i_2)] [] H :=
  junf_wp (jprog_nf G) (stop := jmem []) (pJ21_rangeCheck G) 4000 _ _ _ _ h
/-- java/util/Arrays fill([BIIB)V @0 -/
theorem gJ21_fill_0 (G : JG) {Rt : JRt} (r_0 : Option Nat) (i_1 : Int32) (i_2 : Int32) (i_3 : Int32) {H : JHp} (h :
  ∃ (a1 : Nat) (A2 : vp_A), r_0 = some a1 ∧ jar H a1 2 A2 ∧
  /- J21_rangeCheck -/ ∃ H3 : JHp, jok (jprog G) 285 [jI (nI A2.1), jI i_1, jI i_2] H (.inl none) H3 ∧
  jwp (jprog G) 286 Rt 10 [some (jR r_0), some (jI i_1), some (jI i_2), some (jI i_3), some (jI i_1)] [] H3) :
  jwp (jprog G) 286 Rt 0 [some (jR r_0), some (jI i_1), some (jI i_2), some (jI i_3), none] [] H :=
  junf_wp (jprog_nf G) (stop := jmem [10]) (pJ21_fill G) 4000 _ _ _ _ h
/-- java/util/Arrays fill([BIIB)V @10 -/
theorem gJ21_fill_10 (G : JG) {Rt : JRt} (r_0 : Option Nat) (q_1 : Option JVal) (i_2 : Int32) (i_3 : Int32) (i_4 : Int32) {H : JHp} (h :
  (i_2 ≤ i_4 →
    Rt (.inl none) H) ∧
  (¬ i_2 ≤ i_4 →
    ∃ (a1 n2 : Nat) (f3 : Nat → Int32), r_0 = some a1 ∧ H.1 a1 = some (true, jA 2 (aI n2 f3)) ∧ vp_in i_4 n2 ∧ 
    jwp (jprog G) 286 Rt 10 [some (jR r_0), q_1, some (jI i_2), some (jI i_3), some (jI (i_4 + 1))] [] (jup H a1 (jA 2 (aI n2 (upd f3 (i_4).toNatClampNeg ((i_3).toInt8.toInt32))))))) :
  jwp (jprog G) 286 Rt 10 [some (jR r_0), q_1, some (jI i_2), some (jI i_3), some (jI i_4)] [] H :=
  junf_wp (jprog_nf G) (stop := jmem [10]) (pJ21_fill G) 4000 _ _ _ _ h
/-- java/lang/StringLatin1 fillNull([BII)V @0 -/
theorem gJ22_fillNull_0 (G : JG) {Rt : JRt} (r_0 : Option Nat) (i_1 : Int32) (i_2 : Int32) {H : JHp} (h :
  /- J21_fill -/ ∃ H1 : JHp, jok (jprog G) 286 [jR r_0, jI i_1, jI i_2, jI 0] H (.inl none) H1 ∧
  Rt (.inl none) H1) :
  jwp (jprog G) 287 Rt 0 [some (jR r_0), some (jI i_1), some (jI i_2)] [] H :=
  junf_wp (jprog_nf G) (stop := jmem []) (pJ22_fillNull G) 4000 _ _ _ _ h
/-- java/lang/AbstractStringBuilder setLength(I)V @0 -/
theorem gJ8_setLength__J9_0 (G : JG) {Rt : JRt} (this : Option Nat) (i_1 : Int32) {H : JHp} (h :
  (0 ≤ i_1 →
    ∃ (a1 : Nat) (fs2 : List JVal), this = some a1 ∧ job H a1 15 fs2 ∧ /- J8_ensureCapacityInternal__J9 -/ ∃ H3 : JHp, jok (jprog G) 193 [jR this, jI i_1] H (.inl none) H3 ∧
    ∃ (a4 : Nat) (fs5 : List JVal) (x6 : Int32), this = some a4 ∧ job H3 a4 15 fs5 ∧ jn fs5 3 = some (jI x6) ∧
    (i_1 ≤ x6 →
      ∃ (a7 : Nat) (fs8 : List JVal) (x9 : Int32), this = some a7 ∧ job H3 a7 15 fs8 ∧ jn fs8 3 = some (jI x9) ∧
      (x9 ≤ i_1 →
        ∃ (a10 : Nat) (fs11 : List JVal) (v12 : JVal), this = some a10 ∧ H3.1 a10 = some (true, jO 15 fs11) ∧ jn fs11 3 = some v12 ∧
        Rt (.inl none) (jup H3 a10 (jO 15 (jset fs11 3 (jI i_1))))) ∧
      (¬ x9 ≤ i_1 →
        jbool (1 : Int32) ∧ ∃ (a13 : Nat) (fs14 : List JVal) (v15 : JVal), this = some a13 ∧ H3.1 a13 = some (true, jO 15 fs14) ∧ jn fs14 2 = some v15 ∧
        ∃ (a16 : Nat) (fs17 : List JVal) (v18 : JVal), this = some a16 ∧ (jup H3 a13 (jO 15 (jset fs14 2 (jI 1)))).1 a16 = some (true, jO 15 fs17) ∧ jn fs17 3 = some v18 ∧
        Rt (.inl none) (jup (jup H3 a13 (jO 15 (jset fs14 2 (jI 1)))) a16 (jO 15 (jset fs17 3 (jI i_1)))))) ∧
    (¬ i_1 ≤ x6 →
      ∃ (a19 : Nat) (fs20 : List JVal), this = some a19 ∧ job H3 a19 15 fs20 ∧ /- J8_isLatin1__J9 -/ ∃ (x22 : Int32) (H21 : JHp), jok (jprog G) 200 [jR this] H3 (.inl (some (jI x22))) H21 ∧
      (x22 = 0 →
        False) ∧
      (¬ x22 = 0 →
        ∃ (a23 : Nat) (fs24 : List JVal) (r25 : Option Nat), this = some a23 ∧ job H21 a23 15 fs24 ∧ jn fs24 0 = some (jR r25) ∧
        ∃ (a26 : Nat) (fs27 : List JVal) (x28 : Int32), this = some a26 ∧ job H21 a26 15 fs27 ∧ jn fs27 3 = some (jI x28) ∧
        /- J22_fillNull -/ ∃ H29 : JHp, jok (jprog G) 287 [jR r25, jI x28, jI i_1] H21 (.inl none) H29 ∧
        ∃ (a30 : Nat) (fs31 : List JVal) (v32 : JVal), this = some a30 ∧ H29.1 a30 = some (true, jO 15 fs31) ∧ jn fs31 3 = some v32 ∧
        Rt (.inl none) (jup H29 a30 (jO 15 (jset fs31 3 (jI i_1))))))) ∧
  (¬ 0 ≤ i_1 →
    False)) :
  jwp (jprog G) 288 Rt 0 [some (jR this), some (jI i_1)] [] H :=
  junf_wp (jprog_nf G) (stop := jmem []) (pJ8_setLength__J9 G) 4000 _ _ _ _ h
/-- java/lang/StringBuilder setLength(I)V @0 -/
theorem gJ9_setLength_0 (G : JG) {Rt : JRt} (this : Option Nat) (i_1 : Int32) {H : JHp} (h :
  ∃ (a1 : Nat) (fs2 : List JVal), this = some a1 ∧ job H a1 15 fs2 ∧ /- J8_setLength__J9 -/ ∃ H3 : JHp, jok (jprog G) 288 [jR this, jI i_1] H (.inl none) H3 ∧
  Rt (.inl none) H3) :
  jwp (jprog G) 289 Rt 0 [some (jR this), some (jI i_1)] [] H :=
  junf_wp (jprog_nf G) (stop := jmem []) (pJ9_setLength G) 4000 _ _ _ _ h
/-- java/util/ArrayDeque removeFirst()Ljava/lang/Object; @0 -/
theorem gJ7_removeFirst_0 (G : JG) {Rt : JRt} (this : Option Nat) {H : JHp} (h :
  ∃ (a1 : Nat) (fs2 : List JVal), this = some a1 ∧ job H a1 14 fs2 ∧ /- J7_pollFirst -/ ∃ (r4 : Option Nat) (H3 : JHp), jok (jprog G) 32 [jR this] H (.inl (some (jR r4))) H3 ∧
  ((¬ r4 = none) →
    Rt (.inl (some (jR r4))) H3) ∧
  (¬ (¬ r4 = none) →
    False)) :
  jwp (jprog G) 290 Rt 0 [some (jR this), none] [] H :=
  junf_wp (jprog_nf G) (stop := jmem []) (pJ7_removeFirst G) 4000 _ _ _ _ h
/-- java/lang/Long bitCount(J)I @0 -/
theorem gJ27_bitCount_0 (G : JG) {Rt : JRt} (l_0 : Int64) {H : JHp} (h :
  Rt (.inl (some (jI ((((((((((l_0 - ((jlushr l_0 (1 : Int32)) &&& (6148914691236517205 : Int64))) &&& (3689348814741910323 : Int64)) + ((jlushr (l_0 - ((jlushr l_0 (1 : Int32)) &&& (6148914691236517205 : Int64))) (2 : Int32)) &&& (3689348814741910323 : Int64))) + (jlushr (((l_0 - ((jlushr l_0 (1 : Int32)) &&& (6148914691236517205 : Int64))) &&& (3689348814741910323 : Int64)) + ((jlushr (l_0 - ((jlushr l_0 (1 : Int32)) &&& (6148914691236517205 : Int64))) (2 : Int32)) &&& (3689348814741910323 : Int64))) (4 : Int32))) &&& (1085102592571150095 : Int64)) + (jlushr (((((l_0 - ((jlushr l_0 (1 : Int32)) &&& (6148914691236517205 : Int64))) &&& (3689348814741910323 : Int64)) + ((jlushr (l_0 - ((jlushr l_0 (1 : Int32)) &&& (6148914691236517205 : Int64))) (2 : Int32)) &&& (3689348814741910323 : Int64))) + (jlushr (((l_0 - ((jlushr l_0 (1 : Int32)) &&& (6148914691236517205 : Int64))) &&& (3689348814741910323 : Int64)) + ((jlushr (l_0 - ((jlushr l_0 (1 : Int32)) &&& (6148914691236517205 : Int64))) (2 : Int32)) &&& (3689348814741910323 : Int64))) (4 : Int32))) &&& (1085102592571150095 : Int64)) (8 : Int32))) + (jlushr ((((((l_0 - ((jlushr l_0 (1 : Int32)) &&& (6148914691236517205 : Int64))) &&& (3689348814741910323 : Int64)) + ((jlushr (l_0 - ((jlushr l_0 (1 : Int32)) &&& (6148914691236517205 : Int64))) (2 : Int32)) &&& (3689348814741910323 : Int64))) + (jlushr (((l_0 - ((jlushr l_0 (1 : Int32)) &&& (6148914691236517205 : Int64))) &&& (3689348814741910323 : Int64)) + ((jlushr (l_0 - ((jlushr l_0 (1 : Int32)) &&& (6148914691236517205 : Int64))) (2 : Int32)) &&& (3689348814741910323 : Int64))) (4 : Int32))) &&& (1085102592571150095 : Int64)) + (jlushr (((((l_0 - ((jlushr l_0 (1 : Int32)) &&& (6148914691236517205 : Int64))) &&& (3689348814741910323 : Int64)) + ((jlushr (l_0 - ((jlushr l_0 (1 : Int32)) &&& (6148914691236517205 : Int64))) (2 : Int32)) &&& (3689348814741910323 : Int64))) + (jlushr (((l_0 - ((jlushr l_0 (1 : Int32)) &&& (6148914691236517205 : Int64))) &&& (3689348814741910323 : Int64)) + ((jlushr (l_0 - ((jlushr l_0 (1 : Int32)) &&& (6148914691236517205 : Int64))) (2 : Int32)) &&& (3689348814741910323 : Int64))) (4 : Int32))) &&& (1085102592571150095 : Int64)) (8 : Int32))) (16 : Int32))) + (jlushr (((((((l_0 - ((jlushr l_0 (1 : Int32)) &&& (6148914691236517205 : Int64))) &&& (3689348814741910323 : Int64)) + ((jlushr (l_0 - ((jlushr l_0 (1 : Int32)) &&& (6148914691236517205 : Int64))) (2 : Int32)) &&& (3689348814741910323 : Int64))) + (jlushr (((l_0 - ((jlushr l_0 (1 : Int32)) &&& (6148914691236517205 : Int64))) &&& (3689348814741910323 : Int64)) + ((jlushr (l_0 - ((jlushr l_0 (1 : Int32)) &&& (6148914691236517205 : Int64))) (2 : Int32)) &&& (3689348814741910323 : Int64))) (4 : Int32))) &&& (1085102592571150095 : Int64)) + (jlushr (((((l_0 - ((jlushr l_0 (1 : Int32)) &&& (6148914691236517205 : Int64))) &&& (3689348814741910323 : Int64)) + ((jlushr (l_0 - ((jlushr l_0 (1 : Int32)) &&& (6148914691236517205 : Int64))) (2 : Int32)) &&& (3689348814741910323 : Int64))) + (jlushr (((l_0 - ((jlushr l_0 (1 : Int32)) &&& (6148914691236517205 : Int64))) &&& (3689348814741910323 : Int64)) + ((jlushr (l_0 - ((jlushr l_0 (1 : Int32)) &&& (6148914691236517205 : Int64))) (2 : Int32)) &&& (3689348814741910323 : Int64))) (4 : Int32))) &&& (1085102592571150095 : Int64)) (8 : Int32))) + (jlushr ((((((l_0 - ((jlushr l_0 (1 : Int32)) &&& (6148914691236517205 : Int64))) &&& (3689348814741910323 : Int64)) + ((jlushr (l_0 - ((jlushr l_0 (1 : Int32)) &&& (6148914691236517205 : Int64))) (2 : Int32)) &&& (3689348814741910323 : Int64))) + (jlushr (((l_0 - ((jlushr l_0 (1 : Int32)) &&& (6148914691236517205 : Int64))) &&& (3689348814741910323 : Int64)) + ((jlushr (l_0 - ((jlushr l_0 (1 : Int32)) &&& (6148914691236517205 : Int64))) (2 : Int32)) &&& (3689348814741910323 : Int64))) (4 : Int32))) &&& (1085102592571150095 : Int64)) + (jlushr (((((l_0 - ((jlushr l_0 (1 : Int32)) &&& (6148914691236517205 : Int64))) &&& (3689348814741910323 : Int64)) + ((jlushr (l_0 - ((jlushr l_0 (1 : Int32)) &&& (6148914691236517205 : Int64))) (2 : Int32)) &&& (3689348814741910323 : Int64))) + (jlushr (((l_0 - ((jlushr l_0 (1 : Int32)) &&& (6148914691236517205 : Int64))) &&& (3689348814741910323 : Int64)) + ((jlushr (l_0 - ((jlushr l_0 (1 : Int32)) &&& (6148914691236517205 : Int64))) (2 : Int32)) &&& (3689348814741910323 : Int64))) (4 : Int32))) &&& (1085102592571150095 : Int64)) (8 : Int32))) (16 : Int32))) (32 : Int32)))).toInt32 &&& (127 : Int32))))) H) :
  jwp (jprog G) 336 Rt 0 [some (jL l_0), none] [] H :=
  junf_wp (jprog_nf G) (stop := jmem []) (pJ27_bitCount G) 4000 _ _ _ _ h
/-- java/util/BitSet cardinality()I @0 -/
theorem gJ32_cardinality_0 (G : JG) {Rt : JRt} (this : Option Nat) {H : JHp} (h :
  jwp (jprog G) 337 Rt 4 [some (jR this), some (jI 0), some (jI 0)] [] H) :
  jwp (jprog G) 337 Rt 0 [some (jR this), none, none] [] H :=
  junf_wp (jprog_nf G) (stop := jmem [4]) (pJ32_cardinality G) 4000 _ _ _ _ h
/-- java/util/BitSet cardinality()I @4 -/
theorem gJ32_cardinality_4 (G : JG) {Rt : JRt} (r_0 : Option Nat) (i_1 : Int32) (i_2 : Int32) {H : JHp} (h :
  ∃ (a1 : Nat) (fs2 : List JVal) (x3 : Int32), r_0 = some a1 ∧ job H a1 24 fs2 ∧ jn fs2 1 = some (jI x3) ∧
  (x3 ≤ i_2 →
    Rt (.inl (some (jI i_1))) H) ∧
  (¬ x3 ≤ i_2 →
    ∃ (a4 : Nat) (fs5 : List JVal) (r6 : Option Nat), r_0 = some a4 ∧ job H a4 24 fs5 ∧ jn fs5 0 = some (jR r6) ∧
    ∃ (a7 n8 : Nat) (f9 : Nat → Int64), r6 = some a7 ∧ jar H a7 1 (aL n8 f9) ∧ vp_in i_2 n8 ∧
    /- J27_bitCount -/ ∃ (x11 : Int32) (H10 : JHp), jok (jprog G) 336 [jL (f9 (i_2).toNatClampNeg)] H (.inl (some (jI x11))) H10 ∧
    jwp (jprog G) 337 Rt 4 [some (jR r_0), some (jI (i_1 + x11)), some (jI (i_2 + 1))] [] H10)) :
  jwp (jprog G) 337 Rt 4 [some (jR r_0), some (jI i_1), some (jI i_2)] [] H :=
  junf_wp (jprog_nf G) (stop := jmem [4]) (pJ32_cardinality G) 4000 _ _ _ _ h
/-- java/util/LinkedList isElementIndex(I)Z @0 -/
theorem gJ36_isElementIndex_0 (G : JG) {Rt : JRt} (this : Option Nat) (i_1 : Int32) {H : JHp} (h :
  (i_1 < 0 →
    jbool (0 : Int32) ∧ Rt (.inl (some (jI 0))) H) ∧
  (¬ i_1 < 0 →
    ∃ (a1 : Nat) (fs2 : List JVal) (x3 : Int32), this = some a1 ∧ job H a1 27 fs2 ∧ jn fs2 1 = some (jI x3) ∧
    (x3 ≤ i_1 →
      jbool (0 : Int32) ∧ Rt (.inl (some (jI 0))) H) ∧
    (¬ x3 ≤ i_1 →
      jbool (1 : Int32) ∧ Rt (.inl (some (jI 1))) H))) :
  jwp (jprog G) 367 Rt 0 [some (jR this), some (jI i_1)] [] H :=
  junf_wp (jprog_nf G) (stop := jmem []) (pJ36_isElementIndex G) 4000 _ _ _ _ h
/-- java/util/LinkedList checkElementIndex(I)V @0 -/
theorem gJ36_checkElementIndex_0 (G : JG) {Rt : JRt} (this : Option Nat) (i_1 : Int32) {H : JHp} (h :
  ∃ (a1 : Nat) (fs2 : List JVal), this = some a1 ∧ job H a1 27 fs2 ∧ /- J36_isElementIndex -/ ∃ (x4 : Int32) (H3 : JHp), jok (jprog G) 367 [jR this, jI i_1] H (.inl (some (jI x4))) H3 ∧
  (¬ x4 = 0 →
    Rt (.inl none) H3) ∧
  (¬ ¬ x4 = 0 →
    False)) :
  jwp (jprog G) 368 Rt 0 [some (jR this), some (jI i_1)] [] H :=
  junf_wp (jprog_nf G) (stop := jmem []) (pJ36_checkElementIndex G) 4000 _ _ _ _ h
/-- java/util/LinkedList get(I)Ljava/lang/Object; @0 -/
theorem gJ36_get_0 (G : JG) {Rt : JRt} (this : Option Nat) (i_1 : Int32) {H : JHp} (h :
  ∃ (a1 : Nat) (fs2 : List JVal), this = some a1 ∧ job H a1 27 fs2 ∧ /- J36_checkElementIndex -/ ∃ H3 : JHp, jok (jprog G) 368 [jR this, jI i_1] H (.inl none) H3 ∧
  ∃ (a4 : Nat) (fs5 : List JVal), this = some a4 ∧ job H3 a4 27 fs5 ∧ /- J36_node -/ ∃ (r7 : Option Nat) (H6 : JHp), jok (jprog G) 154 [jR this, jI i_1] H3 (.inl (some (jR r7))) H6 ∧
  ∃ (a8 : Nat) (fs9 : List JVal) (r10 : Option Nat), r7 = some a8 ∧ job H6 a8 28 fs9 ∧ jn fs9 0 = some (jR r10) ∧
  Rt (.inl (some (jR r10))) H6) :
  jwp (jprog G) 369 Rt 0 [some (jR this), some (jI i_1)] [] H :=
  junf_wp (jprog_nf G) (stop := jmem []) (pJ36_get G) 4000 _ _ _ _ h

/-! wp formulas (by program) -/
set_option maxRecDepth 100000
/-- UnheardBellsModel <init>()V @0 -/
theorem gX3_init_0 (G : JG) {Rt : JRt} (this : Option Nat) {H : JHp} (h :
  ∃ a1 : Nat, this = some a1 ∧
  ¬ (235 : Int32) < 0 ∧ ((235 : Int32)).toNatClampNeg ≤ 65536 ∧
  ∃ (a2 : Nat) (fs3 : List JVal) (v4 : JVal), this = some a2 ∧ (jnew H (jA 0 (aI ((235 : Int32)).toNatClampNeg (fun _ => 0))) ((235 : Int32)).toNatClampNeg).1 a2 = some (true, jO 3 fs3) ∧ jn fs3 5 = some v4 ∧
  ¬ (235 : Int32) < 0 ∧ ((235 : Int32)).toNatClampNeg ≤ 65536 ∧
  ∃ (a5 : Nat) (fs6 : List JVal) (v7 : JVal), this = some a5 ∧ (jnew (jup (jnew H (jA 0 (aI ((235 : Int32)).toNatClampNeg (fun _ => 0))) ((235 : Int32)).toNatClampNeg) a2 (jO 3 (jset fs3 5 (jR (some H.2.1))))) (jA 0 (aI ((235 : Int32)).toNatClampNeg (fun _ => 0))) ((235 : Int32)).toNatClampNeg).1 a5 = some (true, jO 3 fs6) ∧ jn fs6 6 = some v7 ∧
  ¬ (235 : Int32) < 0 ∧ ((235 : Int32)).toNatClampNeg ≤ 65536 ∧
  ∃ (a8 : Nat) (fs9 : List JVal) (v10 : JVal), this = some a8 ∧ (jnew (jup (jnew (jup (jnew H (jA 0 (aI ((235 : Int32)).toNatClampNeg (fun _ => 0))) ((235 : Int32)).toNatClampNeg) a2 (jO 3 (jset fs3 5 (jR (some H.2.1))))) (jA 0 (aI ((235 : Int32)).toNatClampNeg (fun _ => 0))) ((235 : Int32)).toNatClampNeg) a5 (jO 3 (jset fs6 6 (jR (some (jup (jnew H (jA 0 (aI ((235 : Int32)).toNatClampNeg (fun _ => 0))) ((235 : Int32)).toNatClampNeg) a2 (jO 3 (jset fs3 5 (jR (some H.2.1))))).2.1))))) (jA 0 (aI ((235 : Int32)).toNatClampNeg (fun _ => 0))) ((235 : Int32)).toNatClampNeg).1 a8 = some (true, jO 3 fs9) ∧ jn fs9 7 = some v10 ∧
  ¬ (235 : Int32) < 0 ∧ ((235 : Int32)).toNatClampNeg ≤ 65536 ∧
  ∃ (a11 : Nat) (fs12 : List JVal) (v13 : JVal), this = some a11 ∧ (jnew (jup (jnew (jup (jnew (jup (jnew H (jA 0 (aI ((235 : Int32)).toNatClampNeg (fun _ => 0))) ((235 : Int32)).toNatClampNeg) a2 (jO 3 (jset fs3 5 (jR (some H.2.1))))) (jA 0 (aI ((235 : Int32)).toNatClampNeg (fun _ => 0))) ((235 : Int32)).toNatClampNeg) a5 (jO 3 (jset fs6 6 (jR (some (jup (jnew H (jA 0 (aI ((235 : Int32)).toNatClampNeg (fun _ => 0))) ((235 : Int32)).toNatClampNeg) a2 (jO 3 (jset fs3 5 (jR (some H.2.1))))).2.1))))) (jA 0 (aI ((235 : Int32)).toNatClampNeg (fun _ => 0))) ((235 : Int32)).toNatClampNeg) a8 (jO 3 (jset fs9 7 (jR (some (jup (jnew (jup (jnew H (jA 0 (aI ((235 : Int32)).toNatClampNeg (fun _ => 0))) ((235 : Int32)).toNatClampNeg) a2 (jO 3 (jset fs3 5 (jR (some H.2.1))))) (jA 0 (aI ((235 : Int32)).toNatClampNeg (fun _ => 0))) ((235 : Int32)).toNatClampNeg) a5 (jO 3 (jset fs6 6 (jR (some (jup (jnew H (jA 0 (aI ((235 : Int32)).toNatClampNeg (fun _ => 0))) ((235 : Int32)).toNatClampNeg) a2 (jO 3 (jset fs3 5 (jR (some H.2.1))))).2.1))))).2.1))))) (jA 0 (aI ((235 : Int32)).toNatClampNeg (fun _ => 0))) ((235 : Int32)).toNatClampNeg).1 a11 = some (true, jO 3 fs12) ∧ jn fs12 8 = some v13 ∧
  ¬ (1880 : Int32) < 0 ∧ ((1880 : Int32)).toNatClampNeg ≤ 65536 ∧
  ∃ (a14 : Nat) (fs15 : List JVal) (v16 : JVal), this = some a14 ∧ (jnew (jup (jnew (jup (jnew (jup (jnew (jup (jnew H (jA 0 (aI ((235 : Int32)).toNatClampNeg (fun _ => 0))) ((235 : Int32)).toNatClampNeg) a2 (jO 3 (jset fs3 5 (jR (some H.2.1))))) (jA 0 (aI ((235 : Int32)).toNatClampNeg (fun _ => 0))) ((235 : Int32)).toNatClampNeg) a5 (jO 3 (jset fs6 6 (jR (some (jup (jnew H (jA 0 (aI ((235 : Int32)).toNatClampNeg (fun _ => 0))) ((235 : Int32)).toNatClampNeg) a2 (jO 3 (jset fs3 5 (jR (some H.2.1))))).2.1))))) (jA 0 (aI ((235 : Int32)).toNatClampNeg (fun _ => 0))) ((235 : Int32)).toNatClampNeg) a8 (jO 3 (jset fs9 7 (jR (some (jup (jnew (jup (jnew H (jA 0 (aI ((235 : Int32)).toNatClampNeg (fun _ => 0))) ((235 : Int32)).toNatClampNeg) a2 (jO 3 (jset fs3 5 (jR (some H.2.1))))) (jA 0 (aI ((235 : Int32)).toNatClampNeg (fun _ => 0))) ((235 : Int32)).toNatClampNeg) a5 (jO 3 (jset fs6 6 (jR (some (jup (jnew H (jA 0 (aI ((235 : Int32)).toNatClampNeg (fun _ => 0))) ((235 : Int32)).toNatClampNeg) a2 (jO 3 (jset fs3 5 (jR (some H.2.1))))).2.1))))).2.1))))) (jA 0 (aI ((235 : Int32)).toNatClampNeg (fun _ => 0))) ((235 : Int32)).toNatClampNeg) a11 (jO 3 (jset fs12 8 (jR (some (jup (jnew (jup (jnew (jup (jnew H (jA 0 (aI ((235 : Int32)).toNatClampNeg (fun _ => 0))) ((235 : Int32)).toNatClampNeg) a2 (jO 3 (jset fs3 5 (jR (some H.2.1))))) (jA 0 (aI ((235 : Int32)).toNatClampNeg (fun _ => 0))) ((235 : Int32)).toNatClampNeg) a5 (jO 3 (jset fs6 6 (jR (some (jup (jnew H (jA 0 (aI ((235 : Int32)).toNatClampNeg (fun _ => 0))) ((235 : Int32)).toNatClampNeg) a2 (jO 3 (jset fs3 5 (jR (some H.2.1))))).2.1))))) (jA 0 (aI ((235 : Int32)).toNatClampNeg (fun _ => 0))) ((235 : Int32)).toNatClampNeg) a8 (jO 3 (jset fs9 7 (jR (some (jup (jnew (jup (jnew H (jA 0 (aI ((235 : Int32)).toNatClampNeg (fun _ => 0))) ((235 : Int32)).toNatClampNeg) a2 (jO 3 (jset fs3 5 (jR (some H.2.1))))) (jA 0 (aI ((235 : Int32)).toNatClampNeg (fun _ => 0))) ((235 : Int32)).toNatClampNeg) a5 (jO 3 (jset fs6 6 (jR (some (jup (jnew H (jA 0 (aI ((235 : Int32)).toNatClampNeg (fun _ => 0))) ((235 : Int32)).toNatClampNeg) a2 (jO 3 (jset fs3 5 (jR (some H.2.1))))).2.1))))).2.1))))).2.1))))) (jA 0 (aI ((1880 : Int32)).toNatClampNeg (fun _ => 0))) ((1880 : Int32)).toNatClampNeg).1 a14 = some (true, jO 3 fs15) ∧ jn fs15 9 = some v16 ∧
  ¬ (60 : Int32) < 0 ∧ ((60 : Int32)).toNatClampNeg ≤ 65536 ∧
  ∃ (a17 : Nat) (fs18 : List JVal) (v19 : JVal), this = some a17 ∧ (jnew (jup (jnew (jup (jnew (jup (jnew (jup (jnew (jup (jnew H (jA 0 (aI ((235 : Int32)).toNatClampNeg (fun _ => 0))) ((235 : Int32)).toNatClampNeg) a2 (jO 3 (jset fs3 5 (jR (some H.2.1))))) (jA 0 (aI ((235 : Int32)).toNatClampNeg (fun _ => 0))) ((235 : Int32)).toNatClampNeg) a5 (jO 3 (jset fs6 6 (jR (some (jup (jnew H (jA 0 (aI ((235 : Int32)).toNatClampNeg (fun _ => 0))) ((235 : Int32)).toNatClampNeg) a2 (jO 3 (jset fs3 5 (jR (some H.2.1))))).2.1))))) (jA 0 (aI ((235 : Int32)).toNatClampNeg (fun _ => 0))) ((235 : Int32)).toNatClampNeg) a8 (jO 3 (jset fs9 7 (jR (some (jup (jnew (jup (jnew H (jA 0 (aI ((235 : Int32)).toNatClampNeg (fun _ => 0))) ((235 : Int32)).toNatClampNeg) a2 (jO 3 (jset fs3 5 (jR (some H.2.1))))) (jA 0 (aI ((235 : Int32)).toNatClampNeg (fun _ => 0))) ((235 : Int32)).toNatClampNeg) a5 (jO 3 (jset fs6 6 (jR (some (jup (jnew H (jA 0 (aI ((235 : Int32)).toNatClampNeg (fun _ => 0))) ((235 : Int32)).toNatClampNeg) a2 (jO 3 (jset fs3 5 (jR (some H.2.1))))).2.1))))).2.1))))) (jA 0 (aI ((235 : Int32)).toNatClampNeg (fun _ => 0))) ((235 : Int32)).toNatClampNeg) a11 (jO 3 (jset fs12 8 (jR (some (jup (jnew (jup (jnew (jup (jnew H (jA 0 (aI ((235 : Int32)).toNatClampNeg (fun _ => 0))) ((235 : Int32)).toNatClampNeg) a2 (jO 3 (jset fs3 5 (jR (some H.2.1))))) (jA 0 (aI ((235 : Int32)).toNatClampNeg (fun _ => 0))) ((235 : Int32)).toNatClampNeg) a5 (jO 3 (jset fs6 6 (jR (some (jup (jnew H (jA 0 (aI ((235 : Int32)).toNatClampNeg (fun _ => 0))) ((235 : Int32)).toNatClampNeg) a2 (jO 3 (jset fs3 5 (jR (some H.2.1))))).2.1))))) (jA 0 (aI ((235 : Int32)).toNatClampNeg (fun _ => 0))) ((235 : Int32)).toNatClampNeg) a8 (jO 3 (jset fs9 7 (jR (some (jup (jnew (jup (jnew H (jA 0 (aI ((235 : Int32)).toNatClampNeg (fun _ => 0))) ((235 : Int32)).toNatClampNeg) a2 (jO 3 (jset fs3 5 (jR (some H.2.1))))) (jA 0 (aI ((235 : Int32)).toNatClampNeg (fun _ => 0))) ((235 : Int32)).toNatClampNeg) a5 (jO 3 (jset fs6 6 (jR (some (jup (jnew H (jA 0 (aI ((235 : Int32)).toNatClampNeg (fun _ => 0))) ((235 : Int32)).toNatClampNeg) a2 (jO 3 (jset fs3 5 (jR (some H.2.1))))).2.1))))).2.1))))).2.1))))) (jA 0 (aI ((1880 : Int32)).toNatClampNeg (fun _ => 0))) ((1880 : Int32)).toNatClampNeg) a14 (jO 3 (jset fs15 9 (jR (some (jup (jnew (jup (jnew (jup (jnew (jup (jnew H (jA 0 (aI ((235 : Int32)).toNatClampNeg (fun _ => 0))) ((235 : Int32)).toNatClampNeg) a2 (jO 3 (jset fs3 5 (jR (some H.2.1))))) (jA 0 (aI ((235 : Int32)).toNatClampNeg (fun _ => 0))) ((235 : Int32)).toNatClampNeg) a5 (jO 3 (jset fs6 6 (jR (some (jup (jnew H (jA 0 (aI ((235 : Int32)).toNatClampNeg (fun _ => 0))) ((235 : Int32)).toNatClampNeg) a2 (jO 3 (jset fs3 5 (jR (some H.2.1))))).2.1))))) (jA 0 (aI ((235 : Int32)).toNatClampNeg (fun _ => 0))) ((235 : Int32)).toNatClampNeg) a8 (jO 3 (jset fs9 7 (jR (some (jup (jnew (jup (jnew H (jA 0 (aI ((235 : Int32)).toNatClampNeg (fun _ => 0))) ((235 : Int32)).toNatClampNeg) a2 (jO 3 (jset fs3 5 (jR (some H.2.1))))) (jA 0 (aI ((235 : Int32)).toNatClampNeg (fun _ => 0))) ((235 : Int32)).toNatClampNeg) a5 (jO 3 (jset fs6 6 (jR (some (jup (jnew H (jA 0 (aI ((235 : Int32)).toNatClampNeg (fun _ => 0))) ((235 : Int32)).toNatClampNeg) a2 (jO 3 (jset fs3 5 (jR (some H.2.1))))).2.1))))).2.1))))) (jA 0 (aI ((235 : Int32)).toNatClampNeg (fun _ => 0))) ((235 : Int32)).toNatClampNeg) a11 (jO 3 (jset fs12 8 (jR (some (jup (jnew (jup (jnew (jup (jnew H (jA 0 (aI ((235 : Int32)).toNatClampNeg (fun _ => 0))) ((235 : Int32)).toNatClampNeg) a2 (jO 3 (jset fs3 5 (jR (some H.2.1))))) (jA 0 (aI ((235 : Int32)).toNatClampNeg (fun _ => 0))) ((235 : Int32)).toNatClampNeg) a5 (jO 3 (jset fs6 6 (jR (some (jup (jnew H (jA 0 (aI ((235 : Int32)).toNatClampNeg (fun _ => 0))) ((235 : Int32)).toNatClampNeg) a2 (jO 3 (jset fs3 5 (jR (some H.2.1))))).2.1))))) (jA 0 (aI ((235 : Int32)).toNatClampNeg (fun _ => 0))) ((235 : Int32)).toNatClampNeg) a8 (jO 3 (jset fs9 7 (jR (some (jup (jnew (jup (jnew H (jA 0 (aI ((235 : Int32)).toNatClampNeg (fun _ => 0))) ((235 : Int32)).toNatClampNeg) a2 (jO 3 (jset fs3 5 (jR (some H.2.1))))) (jA 0 (aI ((235 : Int32)).toNatClampNeg (fun _ => 0))) ((235 : Int32)).toNatClampNeg) a5 (jO 3 (jset fs6 6 (jR (some (jup (jnew H (jA 0 (aI ((235 : Int32)).toNatClampNeg (fun _ => 0))) ((235 : Int32)).toNatClampNeg) a2 (jO 3 (jset fs3 5 (jR (some H.2.1))))).2.1))))).2.1))))).2.1))))).2.1))))) (jA 0 (aI ((60 : Int32)).toNatClampNeg (fun _ => 0))) ((60 : Int32)).toNatClampNeg).1 a17 = some (true, jO 3 fs18) ∧ jn fs18 10 = some v19 ∧
  ¬ (130 : Int32) < 0 ∧ ((130 : Int32)).toNatClampNeg ≤ 65536 ∧
  ∃ (a20 : Nat) (fs21 : List JVal) (v22 : JVal), this = some a20 ∧ (jnew (jup (jnew (jup (jnew (jup (jnew (jup (jnew (jup (jnew (jup (jnew H (jA 0 (aI ((235 : Int32)).toNatClampNeg (fun _ => 0))) ((235 : Int32)).toNatClampNeg) a2 (jO 3 (jset fs3 5 (jR (some H.2.1))))) (jA 0 (aI ((235 : Int32)).toNatClampNeg (fun _ => 0))) ((235 : Int32)).toNatClampNeg) a5 (jO 3 (jset fs6 6 (jR (some (jup (jnew H (jA 0 (aI ((235 : Int32)).toNatClampNeg (fun _ => 0))) ((235 : Int32)).toNatClampNeg) a2 (jO 3 (jset fs3 5 (jR (some H.2.1))))).2.1))))) (jA 0 (aI ((235 : Int32)).toNatClampNeg (fun _ => 0))) ((235 : Int32)).toNatClampNeg) a8 (jO 3 (jset fs9 7 (jR (some (jup (jnew (jup (jnew H (jA 0 (aI ((235 : Int32)).toNatClampNeg (fun _ => 0))) ((235 : Int32)).toNatClampNeg) a2 (jO 3 (jset fs3 5 (jR (some H.2.1))))) (jA 0 (aI ((235 : Int32)).toNatClampNeg (fun _ => 0))) ((235 : Int32)).toNatClampNeg) a5 (jO 3 (jset fs6 6 (jR (some (jup (jnew H (jA 0 (aI ((235 : Int32)).toNatClampNeg (fun _ => 0))) ((235 : Int32)).toNatClampNeg) a2 (jO 3 (jset fs3 5 (jR (some H.2.1))))).2.1))))).2.1))))) (jA 0 (aI ((235 : Int32)).toNatClampNeg (fun _ => 0))) ((235 : Int32)).toNatClampNeg) a11 (jO 3 (jset fs12 8 (jR (some (jup (jnew (jup (jnew (jup (jnew H (jA 0 (aI ((235 : Int32)).toNatClampNeg (fun _ => 0))) ((235 : Int32)).toNatClampNeg) a2 (jO 3 (jset fs3 5 (jR (some H.2.1))))) (jA 0 (aI ((235 : Int32)).toNatClampNeg (fun _ => 0))) ((235 : Int32)).toNatClampNeg) a5 (jO 3 (jset fs6 6 (jR (some (jup (jnew H (jA 0 (aI ((235 : Int32)).toNatClampNeg (fun _ => 0))) ((235 : Int32)).toNatClampNeg) a2 (jO 3 (jset fs3 5 (jR (some H.2.1))))).2.1))))) (jA 0 (aI ((235 : Int32)).toNatClampNeg (fun _ => 0))) ((235 : Int32)).toNatClampNeg) a8 (jO 3 (jset fs9 7 (jR (some (jup (jnew (jup (jnew H (jA 0 (aI ((235 : Int32)).toNatClampNeg (fun _ => 0))) ((235 : Int32)).toNatClampNeg) a2 (jO 3 (jset fs3 5 (jR (some H.2.1))))) (jA 0 (aI ((235 : Int32)).toNatClampNeg (fun _ => 0))) ((235 : Int32)).toNatClampNeg) a5 (jO 3 (jset fs6 6 (jR (some (jup (jnew H (jA 0 (aI ((235 : Int32)).toNatClampNeg (fun _ => 0))) ((235 : Int32)).toNatClampNeg) a2 (jO 3 (jset fs3 5 (jR (some H.2.1))))).2.1))))).2.1))))).2.1))))) (jA 0 (aI ((1880 : Int32)).toNatClampNeg (fun _ => 0))) ((1880 : Int32)).toNatClampNeg) a14 (jO 3 (jset fs15 9 (jR (some (jup (jnew (jup (jnew (jup (jnew (jup (jnew H (jA 0 (aI ((235 : Int32)).toNatClampNeg (fun _ => 0))) ((235 : Int32)).toNatClampNeg) a2 (jO 3 (jset fs3 5 (jR (some H.2.1))))) (jA 0 (aI ((235 : Int32)).toNatClampNeg (fun _ => 0))) ((235 : Int32)).toNatClampNeg) a5 (jO 3 (jset fs6 6 (jR (some (jup (jnew H (jA 0 (aI ((235 : Int32)).toNatClampNeg (fun _ => 0))) ((235 : Int32)).toNatClampNeg) a2 (jO 3 (jset fs3 5 (jR (some H.2.1))))).2.1))))) (jA 0 (aI ((235 : Int32)).toNatClampNeg (fun _ => 0))) ((235 : Int32)).toNatClampNeg) a8 (jO 3 (jset fs9 7 (jR (some (jup (jnew (jup (jnew H (jA 0 (aI ((235 : Int32)).toNatClampNeg (fun _ => 0))) ((235 : Int32)).toNatClampNeg) a2 (jO 3 (jset fs3 5 (jR (some H.2.1))))) (jA 0 (aI ((235 : Int32)).toNatClampNeg (fun _ => 0))) ((235 : Int32)).toNatClampNeg) a5 (jO 3 (jset fs6 6 (jR (some (jup (jnew H (jA 0 (aI ((235 : Int32)).toNatClampNeg (fun _ => 0))) ((235 : Int32)).toNatClampNeg) a2 (jO 3 (jset fs3 5 (jR (some H.2.1))))).2.1))))).2.1))))) (jA 0 (aI ((235 : Int32)).toNatClampNeg (fun _ => 0))) ((235 : Int32)).toNatClampNeg) a11 (jO 3 (jset fs12 8 (jR (some (jup (jnew (jup (jnew (jup (jnew H (jA 0 (aI ((235 : Int32)).toNatClampNeg (fun _ => 0))) ((235 : Int32)).toNatClampNeg) a2 (jO 3 (jset fs3 5 (jR (some H.2.1))))) (jA 0 (aI ((235 : Int32)).toNatClampNeg (fun _ => 0))) ((235 : Int32)).toNatClampNeg) a5 (jO 3 (jset fs6 6 (jR (some (jup (jnew H (jA 0 (aI ((235 : Int32)).toNatClampNeg (fun _ => 0))) ((235 : Int32)).toNatClampNeg) a2 (jO 3 (jset fs3 5 (jR (some H.2.1))))).2.1))))) (jA 0 (aI ((235 : Int32)).toNatClampNeg (fun _ => 0))) ((235 : Int32)).toNatClampNeg) a8 (jO 3 (jset fs9 7 (jR (some (jup (jnew (jup (jnew H (jA 0 (aI ((235 : Int32)).toNatClampNeg (fun _ => 0))) ((235 : Int32)).toNatClampNeg) a2 (jO 3 (jset fs3 5 (jR (some H.2.1))))) (jA 0 (aI ((235 : Int32)).toNatClampNeg (fun _ => 0))) ((235 : Int32)).toNatClampNeg) a5 (jO 3 (jset fs6 6 (jR (some (jup (jnew H (jA 0 (aI ((235 : Int32)).toNatClampNeg (fun _ => 0))) ((235 : Int32)).toNatClampNeg) a2 (jO 3 (jset fs3 5 (jR (some H.2.1))))).2.1))))).2.1))))).2.1))))).2.1))))) (jA 0 (aI ((60 : Int32)).toNatClampNeg (fun _ => 0))) ((60 : Int32)).toNatClampNeg) a17 (jO 3 (jset fs18 10 (jR (some (jup (jnew (jup (jnew (jup (jnew (jup (jnew (jup (jnew H (jA 0 (aI ((235 : Int32)).toNatClampNeg (fun _ => 0))) ((235 : Int32)).toNatClampNeg) a2 (jO 3 (jset fs3 5 (jR (some H.2.1))))) (jA 0 (aI ((235 : Int32)).toNatClampNeg (fun _ => 0))) ((235 : Int32)).toNatClampNeg) a5 (jO 3 (jset fs6 6 (jR (some (jup (jnew H (jA 0 (aI ((235 : Int32)).toNatClampNeg (fun _ => 0))) ((235 : Int32)).toNatClampNeg) a2 (jO 3 (jset fs3 5 (jR (some H.2.1))))).2.1))))) (jA 0 (aI ((235 : Int32)).toNatClampNeg (fun _ => 0))) ((235 : Int32)).toNatClampNeg) a8 (jO 3 (jset fs9 7 (jR (some (jup (jnew (jup (jnew H (jA 0 (aI ((235 : Int32)).toNatClampNeg (fun _ => 0))) ((235 : Int32)).toNatClampNeg) a2 (jO 3 (jset fs3 5 (jR (some H.2.1))))) (jA 0 (aI ((235 : Int32)).toNatClampNeg (fun _ => 0))) ((235 : Int32)).toNatClampNeg) a5 (jO 3 (jset fs6 6 (jR (some (jup (jnew H (jA 0 (aI ((235 : Int32)).toNatClampNeg (fun _ => 0))) ((235 : Int32)).toNatClampNeg) a2 (jO 3 (jset fs3 5 (jR (some H.2.1))))).2.1))))).2.1))))) (jA 0 (aI ((235 : Int32)).toNatClampNeg (fun _ => 0))) ((235 : Int32)).toNatClampNeg) a11 (jO 3 (jset fs12 8 (jR (some (jup (jnew (jup (jnew (jup (jnew H (jA 0 (aI ((235 : Int32)).toNatClampNeg (fun _ => 0))) ((235 : Int32)).toNatClampNeg) a2 (jO 3 (jset fs3 5 (jR (some H.2.1))))) (jA 0 (aI ((235 : Int32)).toNatClampNeg (fun _ => 0))) ((235 : Int32)).toNatClampNeg) a5 (jO 3 (jset fs6 6 (jR (some (jup (jnew H (jA 0 (aI ((235 : Int32)).toNatClampNeg (fun _ => 0))) ((235 : Int32)).toNatClampNeg) a2 (jO 3 (jset fs3 5 (jR (some H.2.1))))).2.1))))) (jA 0 (aI ((235 : Int32)).toNatClampNeg (fun _ => 0))) ((235 : Int32)).toNatClampNeg) a8 (jO 3 (jset fs9 7 (jR (some (jup (jnew (jup (jnew H (jA 0 (aI ((235 : Int32)).toNatClampNeg (fun _ => 0))) ((235 : Int32)).toNatClampNeg) a2 (jO 3 (jset fs3 5 (jR (some H.2.1))))) (jA 0 (aI ((235 : Int32)).toNatClampNeg (fun _ => 0))) ((235 : Int32)).toNatClampNeg) a5 (jO 3 (jset fs6 6 (jR (some (jup (jnew H (jA 0 (aI ((235 : Int32)).toNatClampNeg (fun _ => 0))) ((235 : Int32)).toNatClampNeg) a2 (jO 3 (jset fs3 5 (jR (some H.2.1))))).2.1))))).2.1))))).2.1))))) (jA 0 (aI ((1880 : Int32)).toNatClampNeg (fun _ => 0))) ((1880 : Int32)).toNatClampNeg) a14 (jO 3 (jset fs15 9 (jR (some (jup (jnew (jup (jnew (jup (jnew (jup (jnew H (jA 0 (aI ((235 : Int32)).toNatClampNeg (fun _ => 0))) ((235 : Int32)).toNatClampNeg) a2 (jO 3 (jset fs3 5 (jR (some H.2.1))))) (jA 0 (aI ((235 : Int32)).toNatClampNeg (fun _ => 0))) ((235 : Int32)).toNatClampNeg) a5 (jO 3 (jset fs6 6 (jR (some (jup (jnew H (jA 0 (aI ((235 : Int32)).toNatClampNeg (fun _ => 0))) ((235 : Int32)).toNatClampNeg) a2 (jO 3 (jset fs3 5 (jR (some H.2.1))))).2.1))))) (jA 0 (aI ((235 : Int32)).toNatClampNeg (fun _ => 0))) ((235 : Int32)).toNatClampNeg) a8 (jO 3 (jset fs9 7 (jR (some (jup (jnew (jup (jnew H (jA 0 (aI ((235 : Int32)).toNatClampNeg (fun _ => 0))) ((235 : Int32)).toNatClampNeg) a2 (jO 3 (jset fs3 5 (jR (some H.2.1))))) (jA 0 (aI ((235 : Int32)).toNatClampNeg (fun _ => 0))) ((235 : Int32)).toNatClampNeg) a5 (jO 3 (jset fs6 6 (jR (some (jup (jnew H (jA 0 (aI ((235 : Int32)).toNatClampNeg (fun _ => 0))) ((235 : Int32)).toNatClampNeg) a2 (jO 3 (jset fs3 5 (jR (some H.2.1))))).2.1))))).2.1))))) (jA 0 (aI ((235 : Int32)).toNatClampNeg (fun _ => 0))) ((235 : Int32)).toNatClampNeg) a11 (jO 3 (jset fs12 8 (jR (some (jup (jnew (jup (jnew (jup (jnew H (jA 0 (aI ((235 : Int32)).toNatClampNeg (fun _ => 0))) ((235 : Int32)).toNatClampNeg) a2 (jO 3 (jset fs3 5 (jR (some H.2.1))))) (jA 0 (aI ((235 : Int32)).toNatClampNeg (fun _ => 0))) ((235 : Int32)).toNatClampNeg) a5 (jO 3 (jset fs6 6 (jR (some (jup (jnew H (jA 0 (aI ((235 : Int32)).toNatClampNeg (fun _ => 0))) ((235 : Int32)).toNatClampNeg) a2 (jO 3 (jset fs3 5 (jR (some H.2.1))))).2.1))))) (jA 0 (aI ((235 : Int32)).toNatClampNeg (fun _ => 0))) ((235 : Int32)).toNatClampNeg) a8 (jO 3 (jset fs9 7 (jR (some (jup (jnew (jup (jnew H (jA 0 (aI ((235 : Int32)).toNatClampNeg (fun _ => 0))) ((235 : Int32)).toNatClampNeg) a2 (jO 3 (jset fs3 5 (jR (some H.2.1))))) (jA 0 (aI ((235 : Int32)).toNatClampNeg (fun _ => 0))) ((235 : Int32)).toNatClampNeg) a5 (jO 3 (jset fs6 6 (jR (some (jup (jnew H (jA 0 (aI ((235 : Int32)).toNatClampNeg (fun _ => 0))) ((235 : Int32)).toNatClampNeg) a2 (jO 3 (jset fs3 5 (jR (some H.2.1))))).2.1))))).2.1))))).2.1))))).2.1))))).2.1))))) (jA 0 (aI ((130 : Int32)).toNatClampNeg (fun _ => 0))) ((130 : Int32)).toNatClampNeg).1 a20 = some (true, jO 3 fs21) ∧ jn fs21 11 = some v22 ∧
  Rt (.inl none) (jup (jnew (jup (jnew (jup (jnew (jup (jnew (jup (jnew (jup (jnew (jup (jnew H (jA 0 (aI ((235 : Int32)).toNatClampNeg (fun _ => 0))) ((235 : Int32)).toNatClampNeg) a2 (jO 3 (jset fs3 5 (jR (some H.2.1))))) (jA 0 (aI ((235 : Int32)).toNatClampNeg (fun _ => 0))) ((235 : Int32)).toNatClampNeg) a5 (jO 3 (jset fs6 6 (jR (some (jup (jnew H (jA 0 (aI ((235 : Int32)).toNatClampNeg (fun _ => 0))) ((235 : Int32)).toNatClampNeg) a2 (jO 3 (jset fs3 5 (jR (some H.2.1))))).2.1))))) (jA 0 (aI ((235 : Int32)).toNatClampNeg (fun _ => 0))) ((235 : Int32)).toNatClampNeg) a8 (jO 3 (jset fs9 7 (jR (some (jup (jnew (jup (jnew H (jA 0 (aI ((235 : Int32)).toNatClampNeg (fun _ => 0))) ((235 : Int32)).toNatClampNeg) a2 (jO 3 (jset fs3 5 (jR (some H.2.1))))) (jA 0 (aI ((235 : Int32)).toNatClampNeg (fun _ => 0))) ((235 : Int32)).toNatClampNeg) a5 (jO 3 (jset fs6 6 (jR (some (jup (jnew H (jA 0 (aI ((235 : Int32)).toNatClampNeg (fun _ => 0))) ((235 : Int32)).toNatClampNeg) a2 (jO 3 (jset fs3 5 (jR (some H.2.1))))).2.1))))).2.1))))) (jA 0 (aI ((235 : Int32)).toNatClampNeg (fun _ => 0))) ((235 : Int32)).toNatClampNeg) a11 (jO 3 (jset fs12 8 (jR (some (jup (jnew (jup (jnew (jup (jnew H (jA 0 (aI ((235 : Int32)).toNatClampNeg (fun _ => 0))) ((235 : Int32)).toNatClampNeg) a2 (jO 3 (jset fs3 5 (jR (some H.2.1))))) (jA 0 (aI ((235 : Int32)).toNatClampNeg (fun _ => 0))) ((235 : Int32)).toNatClampNeg) a5 (jO 3 (jset fs6 6 (jR (some (jup (jnew H (jA 0 (aI ((235 : Int32)).toNatClampNeg (fun _ => 0))) ((235 : Int32)).toNatClampNeg) a2 (jO 3 (jset fs3 5 (jR (some H.2.1))))).2.1))))) (jA 0 (aI ((235 : Int32)).toNatClampNeg (fun _ => 0))) ((235 : Int32)).toNatClampNeg) a8 (jO 3 (jset fs9 7 (jR (some (jup (jnew (jup (jnew H (jA 0 (aI ((235 : Int32)).toNatClampNeg (fun _ => 0))) ((235 : Int32)).toNatClampNeg) a2 (jO 3 (jset fs3 5 (jR (some H.2.1))))) (jA 0 (aI ((235 : Int32)).toNatClampNeg (fun _ => 0))) ((235 : Int32)).toNatClampNeg) a5 (jO 3 (jset fs6 6 (jR (some (jup (jnew H (jA 0 (aI ((235 : Int32)).toNatClampNeg (fun _ => 0))) ((235 : Int32)).toNatClampNeg) a2 (jO 3 (jset fs3 5 (jR (some H.2.1))))).2.1))))).2.1))))).2.1))))) (jA 0 (aI ((1880 : Int32)).toNatClampNeg (fun _ => 0))) ((1880 : Int32)).toNatClampNeg) a14 (jO 3 (jset fs15 9 (jR (some (jup (jnew (jup (jnew (jup (jnew (jup (jnew H (jA 0 (aI ((235 : Int32)).toNatClampNeg (fun _ => 0))) ((235 : Int32)).toNatClampNeg) a2 (jO 3 (jset fs3 5 (jR (some H.2.1))))) (jA 0 (aI ((235 : Int32)).toNatClampNeg (fun _ => 0))) ((235 : Int32)).toNatClampNeg) a5 (jO 3 (jset fs6 6 (jR (some (jup (jnew H (jA 0 (aI ((235 : Int32)).toNatClampNeg (fun _ => 0))) ((235 : Int32)).toNatClampNeg) a2 (jO 3 (jset fs3 5 (jR (some H.2.1))))).2.1))))) (jA 0 (aI ((235 : Int32)).toNatClampNeg (fun _ => 0))) ((235 : Int32)).toNatClampNeg) a8 (jO 3 (jset fs9 7 (jR (some (jup (jnew (jup (jnew H (jA 0 (aI ((235 : Int32)).toNatClampNeg (fun _ => 0))) ((235 : Int32)).toNatClampNeg) a2 (jO 3 (jset fs3 5 (jR (some H.2.1))))) (jA 0 (aI ((235 : Int32)).toNatClampNeg (fun _ => 0))) ((235 : Int32)).toNatClampNeg) a5 (jO 3 (jset fs6 6 (jR (some (jup (jnew H (jA 0 (aI ((235 : Int32)).toNatClampNeg (fun _ => 0))) ((235 : Int32)).toNatClampNeg) a2 (jO 3 (jset fs3 5 (jR (some H.2.1))))).2.1))))).2.1))))) (jA 0 (aI ((235 : Int32)).toNatClampNeg (fun _ => 0))) ((235 : Int32)).toNatClampNeg) a11 (jO 3 (jset fs12 8 (jR (some (jup (jnew (jup (jnew (jup (jnew H (jA 0 (aI ((235 : Int32)).toNatClampNeg (fun _ => 0))) ((235 : Int32)).toNatClampNeg) a2 (jO 3 (jset fs3 5 (jR (some H.2.1))))) (jA 0 (aI ((235 : Int32)).toNatClampNeg (fun _ => 0))) ((235 : Int32)).toNatClampNeg) a5 (jO 3 (jset fs6 6 (jR (some (jup (jnew H (jA 0 (aI ((235 : Int32)).toNatClampNeg (fun _ => 0))) ((235 : Int32)).toNatClampNeg) a2 (jO 3 (jset fs3 5 (jR (some H.2.1))))).2.1))))) (jA 0 (aI ((235 : Int32)).toNatClampNeg (fun _ => 0))) ((235 : Int32)).toNatClampNeg) a8 (jO 3 (jset fs9 7 (jR (some (jup (jnew (jup (jnew H (jA 0 (aI ((235 : Int32)).toNatClampNeg (fun _ => 0))) ((235 : Int32)).toNatClampNeg) a2 (jO 3 (jset fs3 5 (jR (some H.2.1))))) (jA 0 (aI ((235 : Int32)).toNatClampNeg (fun _ => 0))) ((235 : Int32)).toNatClampNeg) a5 (jO 3 (jset fs6 6 (jR (some (jup (jnew H (jA 0 (aI ((235 : Int32)).toNatClampNeg (fun _ => 0))) ((235 : Int32)).toNatClampNeg) a2 (jO 3 (jset fs3 5 (jR (some H.2.1))))).2.1))))).2.1))))).2.1))))).2.1))))) (jA 0 (aI ((60 : Int32)).toNatClampNeg (fun _ => 0))) ((60 : Int32)).toNatClampNeg) a17 (jO 3 (jset fs18 10 (jR (some (jup (jnew (jup (jnew (jup (jnew (jup (jnew (jup (jnew H (jA 0 (aI ((235 : Int32)).toNatClampNeg (fun _ => 0))) ((235 : Int32)).toNatClampNeg) a2 (jO 3 (jset fs3 5 (jR (some H.2.1))))) (jA 0 (aI ((235 : Int32)).toNatClampNeg (fun _ => 0))) ((235 : Int32)).toNatClampNeg) a5 (jO 3 (jset fs6 6 (jR (some (jup (jnew H (jA 0 (aI ((235 : Int32)).toNatClampNeg (fun _ => 0))) ((235 : Int32)).toNatClampNeg) a2 (jO 3 (jset fs3 5 (jR (some H.2.1))))).2.1))))) (jA 0 (aI ((235 : Int32)).toNatClampNeg (fun _ => 0))) ((235 : Int32)).toNatClampNeg) a8 (jO 3 (jset fs9 7 (jR (some (jup (jnew (jup (jnew H (jA 0 (aI ((235 : Int32)).toNatClampNeg (fun _ => 0))) ((235 : Int32)).toNatClampNeg) a2 (jO 3 (jset fs3 5 (jR (some H.2.1))))) (jA 0 (aI ((235 : Int32)).toNatClampNeg (fun _ => 0))) ((235 : Int32)).toNatClampNeg) a5 (jO 3 (jset fs6 6 (jR (some (jup (jnew H (jA 0 (aI ((235 : Int32)).toNatClampNeg (fun _ => 0))) ((235 : Int32)).toNatClampNeg) a2 (jO 3 (jset fs3 5 (jR (some H.2.1))))).2.1))))).2.1))))) (jA 0 (aI ((235 : Int32)).toNatClampNeg (fun _ => 0))) ((235 : Int32)).toNatClampNeg) a11 (jO 3 (jset fs12 8 (jR (some (jup (jnew (jup (jnew (jup (jnew H (jA 0 (aI ((235 : Int32)).toNatClampNeg (fun _ => 0))) ((235 : Int32)).toNatClampNeg) a2 (jO 3 (jset fs3 5 (jR (some H.2.1))))) (jA 0 (aI ((235 : Int32)).toNatClampNeg (fun _ => 0))) ((235 : Int32)).toNatClampNeg) a5 (jO 3 (jset fs6 6 (jR (some (jup (jnew H (jA 0 (aI ((235 : Int32)).toNatClampNeg (fun _ => 0))) ((235 : Int32)).toNatClampNeg) a2 (jO 3 (jset fs3 5 (jR (some H.2.1))))).2.1))))) (jA 0 (aI ((235 : Int32)).toNatClampNeg (fun _ => 0))) ((235 : Int32)).toNatClampNeg) a8 (jO 3 (jset fs9 7 (jR (some (jup (jnew (jup (jnew H (jA 0 (aI ((235 : Int32)).toNatClampNeg (fun _ => 0))) ((235 : Int32)).toNatClampNeg) a2 (jO 3 (jset fs3 5 (jR (some H.2.1))))) (jA 0 (aI ((235 : Int32)).toNatClampNeg (fun _ => 0))) ((235 : Int32)).toNatClampNeg) a5 (jO 3 (jset fs6 6 (jR (some (jup (jnew H (jA 0 (aI ((235 : Int32)).toNatClampNeg (fun _ => 0))) ((235 : Int32)).toNatClampNeg) a2 (jO 3 (jset fs3 5 (jR (some H.2.1))))).2.1))))).2.1))))).2.1))))) (jA 0 (aI ((1880 : Int32)).toNatClampNeg (fun _ => 0))) ((1880 : Int32)).toNatClampNeg) a14 (jO 3 (jset fs15 9 (jR (some (jup (jnew (jup (jnew (jup (jnew (jup (jnew H (jA 0 (aI ((235 : Int32)).toNatClampNeg (fun _ => 0))) ((235 : Int32)).toNatClampNeg) a2 (jO 3 (jset fs3 5 (jR (some H.2.1))))) (jA 0 (aI ((235 : Int32)).toNatClampNeg (fun _ => 0))) ((235 : Int32)).toNatClampNeg) a5 (jO 3 (jset fs6 6 (jR (some (jup (jnew H (jA 0 (aI ((235 : Int32)).toNatClampNeg (fun _ => 0))) ((235 : Int32)).toNatClampNeg) a2 (jO 3 (jset fs3 5 (jR (some H.2.1))))).2.1))))) (jA 0 (aI ((235 : Int32)).toNatClampNeg (fun _ => 0))) ((235 : Int32)).toNatClampNeg) a8 (jO 3 (jset fs9 7 (jR (some (jup (jnew (jup (jnew H (jA 0 (aI ((235 : Int32)).toNatClampNeg (fun _ => 0))) ((235 : Int32)).toNatClampNeg) a2 (jO 3 (jset fs3 5 (jR (some H.2.1))))) (jA 0 (aI ((235 : Int32)).toNatClampNeg (fun _ => 0))) ((235 : Int32)).toNatClampNeg) a5 (jO 3 (jset fs6 6 (jR (some (jup (jnew H (jA 0 (aI ((235 : Int32)).toNatClampNeg (fun _ => 0))) ((235 : Int32)).toNatClampNeg) a2 (jO 3 (jset fs3 5 (jR (some H.2.1))))).2.1))))).2.1))))) (jA 0 (aI ((235 : Int32)).toNatClampNeg (fun _ => 0))) ((235 : Int32)).toNatClampNeg) a11 (jO 3 (jset fs12 8 (jR (some (jup (jnew (jup (jnew (jup (jnew H (jA 0 (aI ((235 : Int32)).toNatClampNeg (fun _ => 0))) ((235 : Int32)).toNatClampNeg) a2 (jO 3 (jset fs3 5 (jR (some H.2.1))))) (jA 0 (aI ((235 : Int32)).toNatClampNeg (fun _ => 0))) ((235 : Int32)).toNatClampNeg) a5 (jO 3 (jset fs6 6 (jR (some (jup (jnew H (jA 0 (aI ((235 : Int32)).toNatClampNeg (fun _ => 0))) ((235 : Int32)).toNatClampNeg) a2 (jO 3 (jset fs3 5 (jR (some H.2.1))))).2.1))))) (jA 0 (aI ((235 : Int32)).toNatClampNeg (fun _ => 0))) ((235 : Int32)).toNatClampNeg) a8 (jO 3 (jset fs9 7 (jR (some (jup (jnew (jup (jnew H (jA 0 (aI ((235 : Int32)).toNatClampNeg (fun _ => 0))) ((235 : Int32)).toNatClampNeg) a2 (jO 3 (jset fs3 5 (jR (some H.2.1))))) (jA 0 (aI ((235 : Int32)).toNatClampNeg (fun _ => 0))) ((235 : Int32)).toNatClampNeg) a5 (jO 3 (jset fs6 6 (jR (some (jup (jnew H (jA 0 (aI ((235 : Int32)).toNatClampNeg (fun _ => 0))) ((235 : Int32)).toNatClampNeg) a2 (jO 3 (jset fs3 5 (jR (some H.2.1))))).2.1))))).2.1))))).2.1))))).2.1))))).2.1))))) (jA 0 (aI ((130 : Int32)).toNatClampNeg (fun _ => 0))) ((130 : Int32)).toNatClampNeg) a20 (jO 3 (jset fs21 11 (jR (some (jup (jnew (jup (jnew (jup (jnew (jup (jnew (jup (jnew (jup (jnew H (jA 0 (aI ((235 : Int32)).toNatClampNeg (fun _ => 0))) ((235 : Int32)).toNatClampNeg) a2 (jO 3 (jset fs3 5 (jR (some H.2.1))))) (jA 0 (aI ((235 : Int32)).toNatClampNeg (fun _ => 0))) ((235 : Int32)).toNatClampNeg) a5 (jO 3 (jset fs6 6 (jR (some (jup (jnew H (jA 0 (aI ((235 : Int32)).toNatClampNeg (fun _ => 0))) ((235 : Int32)).toNatClampNeg) a2 (jO 3 (jset fs3 5 (jR (some H.2.1))))).2.1))))) (jA 0 (aI ((235 : Int32)).toNatClampNeg (fun _ => 0))) ((235 : Int32)).toNatClampNeg) a8 (jO 3 (jset fs9 7 (jR (some (jup (jnew (jup (jnew H (jA 0 (aI ((235 : Int32)).toNatClampNeg (fun _ => 0))) ((235 : Int32)).toNatClampNeg) a2 (jO 3 (jset fs3 5 (jR (some H.2.1))))) (jA 0 (aI ((235 : Int32)).toNatClampNeg (fun _ => 0))) ((235 : Int32)).toNatClampNeg) a5 (jO 3 (jset fs6 6 (jR (some (jup (jnew H (jA 0 (aI ((235 : Int32)).toNatClampNeg (fun _ => 0))) ((235 : Int32)).toNatClampNeg) a2 (jO 3 (jset fs3 5 (jR (some H.2.1))))).2.1))))).2.1))))) (jA 0 (aI ((235 : Int32)).toNatClampNeg (fun _ => 0))) ((235 : Int32)).toNatClampNeg) a11 (jO 3 (jset fs12 8 (jR (some (jup (jnew (jup (jnew (jup (jnew H (jA 0 (aI ((235 : Int32)).toNatClampNeg (fun _ => 0))) ((235 : Int32)).toNatClampNeg) a2 (jO 3 (jset fs3 5 (jR (some H.2.1))))) (jA 0 (aI ((235 : Int32)).toNatClampNeg (fun _ => 0))) ((235 : Int32)).toNatClampNeg) a5 (jO 3 (jset fs6 6 (jR (some (jup (jnew H (jA 0 (aI ((235 : Int32)).toNatClampNeg (fun _ => 0))) ((235 : Int32)).toNatClampNeg) a2 (jO 3 (jset fs3 5 (jR (some H.2.1))))).2.1))))) (jA 0 (aI ((235 : Int32)).toNatClampNeg (fun _ => 0))) ((235 : Int32)).toNatClampNeg) a8 (jO 3 (jset fs9 7 (jR (some (jup (jnew (jup (jnew H (jA 0 (aI ((235 : Int32)).toNatClampNeg (fun _ => 0))) ((235 : Int32)).toNatClampNeg) a2 (jO 3 (jset fs3 5 (jR (some H.2.1))))) (jA 0 (aI ((235 : Int32)).toNatClampNeg (fun _ => 0))) ((235 : Int32)).toNatClampNeg) a5 (jO 3 (jset fs6 6 (jR (some (jup (jnew H (jA 0 (aI ((235 : Int32)).toNatClampNeg (fun _ => 0))) ((235 : Int32)).toNatClampNeg) a2 (jO 3 (jset fs3 5 (jR (some H.2.1))))).2.1))))).2.1))))).2.1))))) (jA 0 (aI ((1880 : Int32)).toNatClampNeg (fun _ => 0))) ((1880 : Int32)).toNatClampNeg) a14 (jO 3 (jset fs15 9 (jR (some (jup (jnew (jup (jnew (jup (jnew (jup (jnew H (jA 0 (aI ((235 : Int32)).toNatClampNeg (fun _ => 0))) ((235 : Int32)).toNatClampNeg) a2 (jO 3 (jset fs3 5 (jR (some H.2.1))))) (jA 0 (aI ((235 : Int32)).toNatClampNeg (fun _ => 0))) ((235 : Int32)).toNatClampNeg) a5 (jO 3 (jset fs6 6 (jR (some (jup (jnew H (jA 0 (aI ((235 : Int32)).toNatClampNeg (fun _ => 0))) ((235 : Int32)).toNatClampNeg) a2 (jO 3 (jset fs3 5 (jR (some H.2.1))))).2.1))))) (jA 0 (aI ((235 : Int32)).toNatClampNeg (fun _ => 0))) ((235 : Int32)).toNatClampNeg) a8 (jO 3 (jset fs9 7 (jR (some (jup (jnew (jup (jnew H (jA 0 (aI ((235 : Int32)).toNatClampNeg (fun _ => 0))) ((235 : Int32)).toNatClampNeg) a2 (jO 3 (jset fs3 5 (jR (some H.2.1))))) (jA 0 (aI ((235 : Int32)).toNatClampNeg (fun _ => 0))) ((235 : Int32)).toNatClampNeg) a5 (jO 3 (jset fs6 6 (jR (some (jup (jnew H (jA 0 (aI ((235 : Int32)).toNatClampNeg (fun _ => 0))) ((235 : Int32)).toNatClampNeg) a2 (jO 3 (jset fs3 5 (jR (some H.2.1))))).2.1))))).2.1))))) (jA 0 (aI ((235 : Int32)).toNatClampNeg (fun _ => 0))) ((235 : Int32)).toNatClampNeg) a11 (jO 3 (jset fs12 8 (jR (some (jup (jnew (jup (jnew (jup (jnew H (jA 0 (aI ((235 : Int32)).toNatClampNeg (fun _ => 0))) ((235 : Int32)).toNatClampNeg) a2 (jO 3 (jset fs3 5 (jR (some H.2.1))))) (jA 0 (aI ((235 : Int32)).toNatClampNeg (fun _ => 0))) ((235 : Int32)).toNatClampNeg) a5 (jO 3 (jset fs6 6 (jR (some (jup (jnew H (jA 0 (aI ((235 : Int32)).toNatClampNeg (fun _ => 0))) ((235 : Int32)).toNatClampNeg) a2 (jO 3 (jset fs3 5 (jR (some H.2.1))))).2.1))))) (jA 0 (aI ((235 : Int32)).toNatClampNeg (fun _ => 0))) ((235 : Int32)).toNatClampNeg) a8 (jO 3 (jset fs9 7 (jR (some (jup (jnew (jup (jnew H (jA 0 (aI ((235 : Int32)).toNatClampNeg (fun _ => 0))) ((235 : Int32)).toNatClampNeg) a2 (jO 3 (jset fs3 5 (jR (some H.2.1))))) (jA 0 (aI ((235 : Int32)).toNatClampNeg (fun _ => 0))) ((235 : Int32)).toNatClampNeg) a5 (jO 3 (jset fs6 6 (jR (some (jup (jnew H (jA 0 (aI ((235 : Int32)).toNatClampNeg (fun _ => 0))) ((235 : Int32)).toNatClampNeg) a2 (jO 3 (jset fs3 5 (jR (some H.2.1))))).2.1))))).2.1))))).2.1))))).2.1))))) (jA 0 (aI ((60 : Int32)).toNatClampNeg (fun _ => 0))) ((60 : Int32)).toNatClampNeg) a17 (jO 3 (jset fs18 10 (jR (some (jup (jnew (jup (jnew (jup (jnew (jup (jnew (jup (jnew H (jA 0 (aI ((235 : Int32)).toNatClampNeg (fun _ => 0))) ((235 : Int32)).toNatClampNeg) a2 (jO 3 (jset fs3 5 (jR (some H.2.1))))) (jA 0 (aI ((235 : Int32)).toNatClampNeg (fun _ => 0))) ((235 : Int32)).toNatClampNeg) a5 (jO 3 (jset fs6 6 (jR (some (jup (jnew H (jA 0 (aI ((235 : Int32)).toNatClampNeg (fun _ => 0))) ((235 : Int32)).toNatClampNeg) a2 (jO 3 (jset fs3 5 (jR (some H.2.1))))).2.1))))) (jA 0 (aI ((235 : Int32)).toNatClampNeg (fun _ => 0))) ((235 : Int32)).toNatClampNeg) a8 (jO 3 (jset fs9 7 (jR (some (jup (jnew (jup (jnew H (jA 0 (aI ((235 : Int32)).toNatClampNeg (fun _ => 0))) ((235 : Int32)).toNatClampNeg) a2 (jO 3 (jset fs3 5 (jR (some H.2.1))))) (jA 0 (aI ((235 : Int32)).toNatClampNeg (fun _ => 0))) ((235 : Int32)).toNatClampNeg) a5 (jO 3 (jset fs6 6 (jR (some (jup (jnew H (jA 0 (aI ((235 : Int32)).toNatClampNeg (fun _ => 0))) ((235 : Int32)).toNatClampNeg) a2 (jO 3 (jset fs3 5 (jR (some H.2.1))))).2.1))))).2.1))))) (jA 0 (aI ((235 : Int32)).toNatClampNeg (fun _ => 0))) ((235 : Int32)).toNatClampNeg) a11 (jO 3 (jset fs12 8 (jR (some (jup (jnew (jup (jnew (jup (jnew H (jA 0 (aI ((235 : Int32)).toNatClampNeg (fun _ => 0))) ((235 : Int32)).toNatClampNeg) a2 (jO 3 (jset fs3 5 (jR (some H.2.1))))) (jA 0 (aI ((235 : Int32)).toNatClampNeg (fun _ => 0))) ((235 : Int32)).toNatClampNeg) a5 (jO 3 (jset fs6 6 (jR (some (jup (jnew H (jA 0 (aI ((235 : Int32)).toNatClampNeg (fun _ => 0))) ((235 : Int32)).toNatClampNeg) a2 (jO 3 (jset fs3 5 (jR (some H.2.1))))).2.1))))) (jA 0 (aI ((235 : Int32)).toNatClampNeg (fun _ => 0))) ((235 : Int32)).toNatClampNeg) a8 (jO 3 (jset fs9 7 (jR (some (jup (jnew (jup (jnew H (jA 0 (aI ((235 : Int32)).toNatClampNeg (fun _ => 0))) ((235 : Int32)).toNatClampNeg) a2 (jO 3 (jset fs3 5 (jR (some H.2.1))))) (jA 0 (aI ((235 : Int32)).toNatClampNeg (fun _ => 0))) ((235 : Int32)).toNatClampNeg) a5 (jO 3 (jset fs6 6 (jR (some (jup (jnew H (jA 0 (aI ((235 : Int32)).toNatClampNeg (fun _ => 0))) ((235 : Int32)).toNatClampNeg) a2 (jO 3 (jset fs3 5 (jR (some H.2.1))))).2.1))))).2.1))))).2.1))))) (jA 0 (aI ((1880 : Int32)).toNatClampNeg (fun _ => 0))) ((1880 : Int32)).toNatClampNeg) a14 (jO 3 (jset fs15 9 (jR (some (jup (jnew (jup (jnew (jup (jnew (jup (jnew H (jA 0 (aI ((235 : Int32)).toNatClampNeg (fun _ => 0))) ((235 : Int32)).toNatClampNeg) a2 (jO 3 (jset fs3 5 (jR (some H.2.1))))) (jA 0 (aI ((235 : Int32)).toNatClampNeg (fun _ => 0))) ((235 : Int32)).toNatClampNeg) a5 (jO 3 (jset fs6 6 (jR (some (jup (jnew H (jA 0 (aI ((235 : Int32)).toNatClampNeg (fun _ => 0))) ((235 : Int32)).toNatClampNeg) a2 (jO 3 (jset fs3 5 (jR (some H.2.1))))).2.1))))) (jA 0 (aI ((235 : Int32)).toNatClampNeg (fun _ => 0))) ((235 : Int32)).toNatClampNeg) a8 (jO 3 (jset fs9 7 (jR (some (jup (jnew (jup (jnew H (jA 0 (aI ((235 : Int32)).toNatClampNeg (fun _ => 0))) ((235 : Int32)).toNatClampNeg) a2 (jO 3 (jset fs3 5 (jR (some H.2.1))))) (jA 0 (aI ((235 : Int32)).toNatClampNeg (fun _ => 0))) ((235 : Int32)).toNatClampNeg) a5 (jO 3 (jset fs6 6 (jR (some (jup (jnew H (jA 0 (aI ((235 : Int32)).toNatClampNeg (fun _ => 0))) ((235 : Int32)).toNatClampNeg) a2 (jO 3 (jset fs3 5 (jR (some H.2.1))))).2.1))))).2.1))))) (jA 0 (aI ((235 : Int32)).toNatClampNeg (fun _ => 0))) ((235 : Int32)).toNatClampNeg) a11 (jO 3 (jset fs12 8 (jR (some (jup (jnew (jup (jnew (jup (jnew H (jA 0 (aI ((235 : Int32)).toNatClampNeg (fun _ => 0))) ((235 : Int32)).toNatClampNeg) a2 (jO 3 (jset fs3 5 (jR (some H.2.1))))) (jA 0 (aI ((235 : Int32)).toNatClampNeg (fun _ => 0))) ((235 : Int32)).toNatClampNeg) a5 (jO 3 (jset fs6 6 (jR (some (jup (jnew H (jA 0 (aI ((235 : Int32)).toNatClampNeg (fun _ => 0))) ((235 : Int32)).toNatClampNeg) a2 (jO 3 (jset fs3 5 (jR (some H.2.1))))).2.1))))) (jA 0 (aI ((235 : Int32)).toNatClampNeg (fun _ => 0))) ((235 : Int32)).toNatClampNeg) a8 (jO 3 (jset fs9 7 (jR (some (jup (jnew (jup (jnew H (jA 0 (aI ((235 : Int32)).toNatClampNeg (fun _ => 0))) ((235 : Int32)).toNatClampNeg) a2 (jO 3 (jset fs3 5 (jR (some H.2.1))))) (jA 0 (aI ((235 : Int32)).toNatClampNeg (fun _ => 0))) ((235 : Int32)).toNatClampNeg) a5 (jO 3 (jset fs6 6 (jR (some (jup (jnew H (jA 0 (aI ((235 : Int32)).toNatClampNeg (fun _ => 0))) ((235 : Int32)).toNatClampNeg) a2 (jO 3 (jset fs3 5 (jR (some H.2.1))))).2.1))))).2.1))))).2.1))))).2.1))))).2.1))))).2.1)))))) :
  jwp (jprog G) 16 Rt 0 [some (jR this)] [] H :=
  junf_wp (jprog_nf G) (stop := jmem []) (pX3_init G) 4000 _ _ _ _ h
/-- UnheardBellsModel lays([I[I)V @0 -/
theorem gX3_lays_0 (G : JG) {Rt : JRt} (r_0 : Option Nat) (r_1 : Option Nat) {H : JHp} (h :
  jwp (jprog G) 106 Rt 2 [some (jR r_0), some (jR r_1), some (jI 0)] [] H) :
  jwp (jprog G) 106 Rt 0 [some (jR r_0), some (jR r_1), none] [] H :=
  junf_wp (jprog_nf G) (stop := jmem [2]) (pX3_lays G) 4000 _ _ _ _ h
/-- UnheardBellsModel lays([I[I)V @2 -/
theorem gX3_lays_2 (G : JG) {Rt : JRt} (r_0 : Option Nat) (r_1 : Option Nat) (i_2 : Int32) {H : JHp} (h :
  ((235 : Int32) ≤ i_2 →
    Rt (.inl none) H) ∧
  (¬ (235 : Int32) ≤ i_2 →
    ∃ (a1 n2 : Nat) (f3 : Nat → Int32), r_1 = some a1 ∧ jar H a1 0 (aI n2 f3) ∧ vp_in i_2 n2 ∧
    ∃ (a4 n5 : Nat) (f6 : Nat → Int32), r_0 = some a4 ∧ H.1 a4 = some (true, jA 0 (aI n5 f6)) ∧ vp_in i_2 n5 ∧ 
    jwp (jprog G) 106 Rt 2 [some (jR r_0), some (jR r_1), some (jI (i_2 + 1))] [] (jup H a4 (jA 0 (aI n5 (upd f6 (i_2).toNatClampNeg (f3 (i_2).toNatClampNeg))))))) :
  jwp (jprog G) 106 Rt 2 [some (jR r_0), some (jR r_1), some (jI i_2)] [] H :=
  junf_wp (jprog_nf G) (stop := jmem [2]) (pX3_lays G) 4000 _ _ _ _ h
/-- UnheardBellsModel restore()I @0 -/
theorem gX3_restore_0 (G : JG) {Rt : JRt} (this : Option Nat) {H : JHp} (h :
  ∃ (a1 : Nat) (fs2 : List JVal) (x3 : Int32), this = some a1 ∧ job H a1 3 fs2 ∧ jn fs2 4 = some (jI x3) ∧
  (¬ x3 = 0 →
    ∃ (a4 : Nat) (fs5 : List JVal) (r6 : Option Nat), this = some a4 ∧ job H a4 3 fs5 ∧ jn fs5 5 = some (jR r6) ∧
    ∃ (a7 : Nat) (fs8 : List JVal) (r9 : Option Nat), this = some a7 ∧ job H a7 3 fs8 ∧ jn fs8 7 = some (jR r9) ∧
    /- X3_lays -/ ∃ H10 : JHp, jok (jprog G) 106 [jR r6, jR r9] H (.inl none) H10 ∧
    ∃ (a11 : Nat) (fs12 : List JVal) (v13 : JVal), this = some a11 ∧ H10.1 a11 = some (true, jO 3 fs12) ∧ jn fs12 1 = some v13 ∧
    ∃ (a14 : Nat) (fs15 : List JVal) (r16 : Option Nat), this = some a14 ∧ job (jup H10 a11 (jO 3 (jset fs12 1 (jI 0)))) a14 3 fs15 ∧ jn fs15 5 = some (jR r16) ∧
    ∃ (a17 n18 : Nat) (f19 : Nat → Int32), r16 = some a17 ∧ jar (jup H10 a11 (jO 3 (jset fs12 1 (jI 0)))) a17 0 (aI n18 f19) ∧ vp_in (0 : Int32) n18 ∧
    Rt (.inl (some (jI (f19 ((0 : Int32)).toNatClampNeg)))) (jup H10 a11 (jO 3 (jset fs12 1 (jI 0))))) ∧
  (¬ ¬ x3 = 0 →
    Rt (.inl (some (jI (-1015)))) H)) :
  jwp (jprog G) 107 Rt 0 [some (jR this)] [] H :=
  junf_wp (jprog_nf G) (stop := jmem []) (pX3_restore G) 4000 _ _ _ _ h
/-- UnheardBellsModel save()I @0 -/
theorem gX3_save_0 (G : JG) {Rt : JRt} (this : Option Nat) {H : JHp} (h :
  ∃ (a1 : Nat) (fs2 : List JVal) (r3 : Option Nat), this = some a1 ∧ job H a1 3 fs2 ∧ jn fs2 7 = some (jR r3) ∧
  ∃ (a4 : Nat) (fs5 : List JVal) (r6 : Option Nat), this = some a4 ∧ job H a4 3 fs5 ∧ jn fs5 5 = some (jR r6) ∧
  /- X3_lays -/ ∃ H7 : JHp, jok (jprog G) 106 [jR r3, jR r6] H (.inl none) H7 ∧
  jbool (1 : Int32) ∧ ∃ (a8 : Nat) (fs9 : List JVal) (v10 : JVal), this = some a8 ∧ H7.1 a8 = some (true, jO 3 fs9) ∧ jn fs9 4 = some v10 ∧
  ∃ (a11 : Nat) (fs12 : List JVal) (r13 : Option Nat), this = some a11 ∧ job (jup H7 a8 (jO 3 (jset fs9 4 (jI 1)))) a11 3 fs12 ∧ jn fs12 5 = some (jR r13) ∧
  ∃ (a14 n15 : Nat) (f16 : Nat → Int32), r13 = some a14 ∧ jar (jup H7 a8 (jO 3 (jset fs9 4 (jI 1)))) a14 0 (aI n15 f16) ∧ vp_in (0 : Int32) n15 ∧
  Rt (.inl (some (jI (f16 ((0 : Int32)).toNatClampNeg)))) (jup H7 a8 (jO 3 (jset fs9 4 (jI 1))))) :
  jwp (jprog G) 109 Rt 0 [some (jR this)] [] H :=
  junf_wp (jprog_nf G) (stop := jmem []) (pX3_save G) 4000 _ _ _ _ h
/-- UnheardBellsModel undo()I @0 -/
theorem gX3_undo_0 (G : JG) {Rt : JRt} (this : Option Nat) {H : JHp} (h :
  ∃ (a1 : Nat) (fs2 : List JVal) (x3 : Int32), this = some a1 ∧ job H a1 3 fs2 ∧ jn fs2 1 = some (jI x3) ∧
  (¬ x3 = 0 →
    ∃ (a4 : Nat) (fs5 : List JVal) (x6 : Int32), this = some a4 ∧ job H a4 3 fs5 ∧ jn fs5 1 = some (jI x6) ∧
    ∃ (a7 : Nat) (fs8 : List JVal) (v9 : JVal), this = some a7 ∧ H.1 a7 = some (true, jO 3 fs8) ∧ jn fs8 1 = some v9 ∧
    jwp (jprog G) 114 Rt 23 [some (jR this), some (jI 0)] [] (jup H a7 (jO 3 (jset fs8 1 (jI (x6 - (1 : Int32))))))) ∧
  (¬ ¬ x3 = 0 →
    Rt (.inl (some (jI (-1015)))) H)) :
  jwp (jprog G) 114 Rt 0 [some (jR this), none] [] H :=
  junf_wp (jprog_nf G) (stop := jmem [23]) (pX3_undo G) 4000 _ _ _ _ h
/-- UnheardBellsModel undo()I @23 -/
theorem gX3_undo_23 (G : JG) {Rt : JRt} (r_0 : Option Nat) (i_1 : Int32) {H : JHp} (h :
  ((235 : Int32) ≤ i_1 →
    ∃ (a1 : Nat) (fs2 : List JVal) (x3 : Int32), r_0 = some a1 ∧ job H a1 3 fs2 ∧ jn fs2 1 = some (jI x3) ∧
    Rt (.inl (some (jI x3))) H) ∧
  (¬ (235 : Int32) ≤ i_1 →
    ∃ (a4 : Nat) (fs5 : List JVal) (r6 : Option Nat), r_0 = some a4 ∧ job H a4 3 fs5 ∧ jn fs5 5 = some (jR r6) ∧
    ∃ (a7 : Nat) (fs8 : List JVal) (r9 : Option Nat), r_0 = some a7 ∧ job H a7 3 fs8 ∧ jn fs8 9 = some (jR r9) ∧
    ∃ (a10 : Nat) (fs11 : List JVal) (x12 : Int32), r_0 = some a10 ∧ job H a10 3 fs11 ∧ jn fs11 1 = some (jI x12) ∧
    ∃ (a13 n14 : Nat) (f15 : Nat → Int32), r9 = some a13 ∧ jar H a13 0 (aI n14 f15) ∧ vp_in ((x12 * (235 : Int32)) + i_1) n14 ∧
    ∃ (a16 n17 : Nat) (f18 : Nat → Int32), r6 = some a16 ∧ H.1 a16 = some (true, jA 0 (aI n17 f18)) ∧ vp_in i_1 n17 ∧ 
    jwp (jprog G) 114 Rt 23 [some (jR r_0), some (jI (i_1 + 1))] [] (jup H a16 (jA 0 (aI n17 (upd f18 (i_1).toNatClampNeg (f15 (((x12 * (235 : Int32)) + i_1)).toNatClampNeg))))))) :
  jwp (jprog G) 114 Rt 23 [some (jR r_0), some (jI i_1)] [] H :=
  junf_wp (jprog_nf G) (stop := jmem [23]) (pX3_undo G) 4000 _ _ _ _ h
/-- UnheardBellsModel answerShare()F @0 -/
theorem gX3_answerShare_0 (G : JG) {Rt : JRt} (this : Option Nat) {H : JHp} (h :
  ∃ (a1 : Nat) (fs2 : List JVal) (r3 : Option Nat), this = some a1 ∧ job H a1 3 fs2 ∧ jn fs2 5 = some (jR r3) ∧
  ∃ (a4 n5 : Nat) (f6 : Nat → Int32), r3 = some a4 ∧ jar H a4 0 (aI n5 f6) ∧ vp_in (5 : Int32) n5 ∧
  ∃ (a7 : Nat) (fs8 : List JVal) (r9 : Option Nat), this = some a7 ∧ job H a7 3 fs8 ∧ jn fs8 5 = some (jR r9) ∧
  ∃ (a10 n11 : Nat) (f12 : Nat → Int32), r9 = some a10 ∧ jar H a10 0 (aI n11 f12) ∧ vp_in (6 : Int32) n11 ∧
  ∃ (a13 : Nat) (fs14 : List JVal) (r15 : Option Nat), this = some a13 ∧ job H a13 3 fs14 ∧ jn fs14 5 = some (jR r15) ∧
  ∃ (a16 n17 : Nat) (f18 : Nat → Int32), r15 = some a16 ∧ jar H a16 0 (aI n17 f18) ∧ vp_in (7 : Int32) n17 ∧
  (¬ (((f6 ((5 : Int32)).toNatClampNeg) + (f12 ((6 : Int32)).toNatClampNeg)) + (f18 ((7 : Int32)).toNatClampNeg)) = 0 →
    ∃ (a19 : Nat) (fs20 : List JVal) (r21 : Option Nat), this = some a19 ∧ job H a19 3 fs20 ∧ jn fs20 5 = some (jR r21) ∧
    ∃ (a22 n23 : Nat) (f24 : Nat → Int32), r21 = some a22 ∧ jar H a22 0 (aI n23 f24) ∧ vp_in (5 : Int32) n23 ∧
    vf_n32 (FP.fdiv (FP.i2f (f24 ((5 : Int32)).toNatClampNeg)) (FP.i2f (((f6 ((5 : Int32)).toNatClampNeg) + (f12 ((6 : Int32)).toNatClampNeg)) + (f18 ((7 : Int32)).toNatClampNeg)))) ∧
    Rt (.inl (some (jF (FP.fdiv (FP.i2f (f24 ((5 : Int32)).toNatClampNeg)) (FP.i2f (((f6 ((5 : Int32)).toNatClampNeg) + (f12 ((6 : Int32)).toNatClampNeg)) + (f18 ((7 : Int32)).toNatClampNeg))))))) H) ∧
  (¬ ¬ (((f6 ((5 : Int32)).toNatClampNeg) + (f12 ((6 : Int32)).toNatClampNeg)) + (f18 ((7 : Int32)).toNatClampNeg)) = 0 →
    Rt (.inl (some (jF FP.fconst0))) H)) :
  jwp (jprog G) 118 Rt 0 [some (jR this), none] [] H :=
  junf_wp (jprog_nf G) (stop := jmem []) (pX3_answerShare G) 4000 _ _ _ _ h
/-- UnheardBellsModel at(II)I @0 -/
theorem gX3_at_0 (G : JG) {Rt : JRt} (i_0 : Int32) (i_1 : Int32) {H : JHp} (h :
  Rt (.inl (some (jI (((11 : Int32) + ((6 : Int32) * i_0)) + i_1)))) H) :
  jwp (jprog G) 121 Rt 0 [some (jI i_0), some (jI i_1)] [] H :=
  junf_wp (jprog_nf G) (stop := jmem []) (pX3_at G) 4000 _ _ _ _ h
/-- UnheardBellsModel rust()I @0 -/
theorem gX3_rust_0 (G : JG) {Rt : JRt} (this : Option Nat) {H : JHp} (h :
  jwp (jprog G) 122 Rt 4 [some (jR this), some (jI 0), some (jI 0)] [] H) :
  jwp (jprog G) 122 Rt 0 [some (jR this), none, none] [] H :=
  junf_wp (jprog_nf G) (stop := jmem [4]) (pX3_rust G) 4000 _ _ _ _ h
/-- UnheardBellsModel rust()I @4 -/
theorem gX3_rust_4 (G : JG) {Rt : JRt} (r_0 : Option Nat) (i_1 : Int32) (i_2 : Int32) {H : JHp} (h :
  ∃ (a1 : Nat) (fs2 : List JVal) (r3 : Option Nat), r_0 = some a1 ∧ job H a1 3 fs2 ∧ jn fs2 5 = some (jR r3) ∧
  ∃ (a4 n5 : Nat) (f6 : Nat → Int32), r3 = some a4 ∧ jar H a4 0 (aI n5 f6) ∧ vp_in (0 : Int32) n5 ∧
  ((f6 ((0 : Int32)).toNatClampNeg) ≤ i_2 →
    Rt (.inl (some (jI i_1))) H) ∧
  (¬ (f6 ((0 : Int32)).toNatClampNeg) ≤ i_2 →
    ∃ (a7 : Nat) (fs8 : List JVal) (r9 : Option Nat), r_0 = some a7 ∧ job H a7 3 fs8 ∧ jn fs8 5 = some (jR r9) ∧
    /- X3_at -/ ∃ (x11 : Int32) (H10 : JHp), jok (jprog G) 121 [jI i_2, jI 2] H (.inl (some (jI x11))) H10 ∧
    ∃ (a12 n13 : Nat) (f14 : Nat → Int32), r9 = some a12 ∧ jar H10 a12 0 (aI n13 f14) ∧ vp_in x11 n13 ∧
    jwp (jprog G) 122 Rt 4 [some (jR r_0), some (jI (i_1 + (f14 (x11).toNatClampNeg))), some (jI (i_2 + 1))] [] H10)) :
  jwp (jprog G) 122 Rt 4 [some (jR r_0), some (jI i_1), some (jI i_2)] [] H :=
  junf_wp (jprog_nf G) (stop := jmem [4]) (pX3_rust G) 4000 _ _ _ _ h
/-- UnheardBellsModel meanRust()D @0 -/
theorem gX3_meanRust_0 (G : JG) {Rt : JRt} (this : Option Nat) {H : JHp} (h :
  ∃ (a1 : Nat) (fs2 : List JVal) (r3 : Option Nat), this = some a1 ∧ job H a1 3 fs2 ∧ jn fs2 5 = some (jR r3) ∧
  ∃ (a4 n5 : Nat) (f6 : Nat → Int32), r3 = some a4 ∧ jar H a4 0 (aI n5 f6) ∧ vp_in (0 : Int32) n5 ∧
  (¬ (f6 ((0 : Int32)).toNatClampNeg) = 0 →
    ∃ (a7 : Nat) (fs8 : List JVal), this = some a7 ∧ job H a7 3 fs8 ∧ /- X3_rust -/ ∃ (x10 : Int32) (H9 : JHp), jok (jprog G) 122 [jR this] H (.inl (some (jI x10))) H9 ∧
    ∃ (a11 : Nat) (fs12 : List JVal) (r13 : Option Nat), this = some a11 ∧ job H9 a11 3 fs12 ∧ jn fs12 5 = some (jR r13) ∧
    ∃ (a14 n15 : Nat) (f16 : Nat → Int32), r13 = some a14 ∧ jar H9 a14 0 (aI n15 f16) ∧ vp_in (0 : Int32) n15 ∧
    vf_n64 (FP.ddiv (FP.i2d x10) (FP.i2d (f16 ((0 : Int32)).toNatClampNeg))) ∧
    Rt (.inl (some (jD (FP.ddiv (FP.i2d x10) (FP.i2d (f16 ((0 : Int32)).toNatClampNeg)))))) H9) ∧
  (¬ ¬ (f6 ((0 : Int32)).toNatClampNeg) = 0 →
    Rt (.inl (some (jD FP.dconst0))) H)) :
  jwp (jprog G) 123 Rt 0 [some (jR this)] [] H :=
  junf_wp (jprog_nf G) (stop := jmem []) (pX3_meanRust G) 4000 _ _ _ _ h
/-- UnheardBellsModel isBalanced()I @0 -/
theorem gX3_isBalanced_0 (G : JG) {Rt : JRt} (this : Option Nat) {H : JHp} (h :
  ∃ (a1 : Nat) (fs2 : List JVal) (r3 : Option Nat), this = some a1 ∧ job H a1 3 fs2 ∧ jn fs2 5 = some (jR r3) ∧
  ∃ (a4 n5 : Nat) (f6 : Nat → Int32), r3 = some a4 ∧ jar H a4 0 (aI n5 f6) ∧ vp_in (4 : Int32) n5 ∧
  ∃ (a7 : Nat) (fs8 : List JVal) (r9 : Option Nat), this = some a7 ∧ job H a7 3 fs8 ∧ jn fs8 5 = some (jR r9) ∧
  ∃ (a10 n11 : Nat) (f12 : Nat → Int32), r9 = some a10 ∧ jar H a10 0 (aI n11 f12) ∧ vp_in (1 : Int32) n11 ∧
  ∃ (a13 : Nat) (fs14 : List JVal) (r15 : Option Nat), this = some a13 ∧ job H a13 3 fs14 ∧ jn fs14 5 = some (jR r15) ∧
  ∃ (a16 n17 : Nat) (f18 : Nat → Int32), r15 = some a16 ∧ jar H a16 0 (aI n17 f18) ∧ vp_in (5 : Int32) n17 ∧
  ∃ (a19 : Nat) (fs20 : List JVal) (r21 : Option Nat), this = some a19 ∧ job H a19 3 fs20 ∧ jn fs20 5 = some (jR r21) ∧
  ∃ (a22 n23 : Nat) (f24 : Nat → Int32), r21 = some a22 ∧ jar H a22 0 (aI n23 f24) ∧ vp_in (6 : Int32) n23 ∧
  ∃ (a25 : Nat) (fs26 : List JVal) (r27 : Option Nat), this = some a25 ∧ job H a25 3 fs26 ∧ jn fs26 5 = some (jR r27) ∧
  ∃ (a28 n29 : Nat) (f30 : Nat → Int32), r27 = some a28 ∧ jar H a28 0 (aI n29 f30) ∧ vp_in (7 : Int32) n29 ∧
  ∃ (a31 : Nat) (fs32 : List JVal) (r33 : Option Nat), this = some a31 ∧ job H a31 3 fs32 ∧ jn fs32 5 = some (jR r33) ∧
  ∃ (a34 n35 : Nat) (f36 : Nat → Int32), r33 = some a34 ∧ jar H a34 0 (aI n35 f36) ∧ vp_in (8 : Int32) n35 ∧
  (¬ (f6 ((4 : Int32)).toNatClampNeg) = (((((f12 ((1 : Int32)).toNatClampNeg) + (f18 ((5 : Int32)).toNatClampNeg)) + (f24 ((6 : Int32)).toNatClampNeg)) + (f30 ((7 : Int32)).toNatClampNeg)) + (f36 ((8 : Int32)).toNatClampNeg)) →
    Rt (.inl (some (jI 0))) H) ∧
  (¬ ¬ (f6 ((4 : Int32)).toNatClampNeg) = (((((f12 ((1 : Int32)).toNatClampNeg) + (f18 ((5 : Int32)).toNatClampNeg)) + (f24 ((6 : Int32)).toNatClampNeg)) + (f30 ((7 : Int32)).toNatClampNeg)) + (f36 ((8 : Int32)).toNatClampNeg)) →
    Rt (.inl (some (jI 1))) H)) :
  jwp (jprog G) 174 Rt 0 [some (jR this)] [] H :=
  junf_wp (jprog_nf G) (stop := jmem []) (pX3_isBalanced G) 4000 _ _ _ _ h
/-- UnheardBellsModel isIn(III)Z @0 -/
theorem gX3_isIn_0 (G : JG) {Rt : JRt} (i_0 : Int32) (i_1 : Int32) (i_2 : Int32) {H : JHp} (h :
  (i_0 < i_1 →
    jbool (0 : Int32) ∧ Rt (.inl (some (jI 0))) H) ∧
  (¬ i_0 < i_1 →
    (i_2 < i_0 →
      jbool (0 : Int32) ∧ Rt (.inl (some (jI 0))) H) ∧
    (¬ i_2 < i_0 →
      jbool (1 : Int32) ∧ Rt (.inl (some (jI 1))) H))) :
  jwp (jprog G) 178 Rt 0 [some (jI i_0), some (jI i_1), some (jI i_2)] [] H :=
  junf_wp (jprog_nf G) (stop := jmem []) (pX3_isIn G) 4000 _ _ _ _ h
/-- UnheardBellsModel account(I)I @0 -/
theorem gX3_account_0 (G : JG) {Rt : JRt} (this : Option Nat) (i_1 : Int32) {H : JHp} (h :
  /- X3_isIn -/ ∃ (x2 : Int32) (H1 : JHp), jok (jprog G) 178 [jI i_1, jI 0, jI 8] H (.inl (some (jI x2))) H1 ∧
  (x2 = 0 →
    (i_1 = 9 → ∃ (a3 : Nat) (fs4 : List JVal), this = some a3 ∧ job H1 a3 3 fs4 ∧ /- X3_rust -/ ∃ (x6 : Int32) (H5 : JHp), jok (jprog G) 122 [jR this] H1 (.inl (some (jI x6))) H5 ∧
      Rt (.inl (some (jI x6))) H5) ∧
    (¬ i_1 = 9 → (i_1 = 10 → ∃ (a7 : Nat) (fs8 : List JVal) (r9 : Option Nat), this = some a7 ∧ job H1 a7 3 fs8 ∧ jn fs8 5 = some (jR r9) ∧
      ∃ (a10 n11 : Nat) (f12 : Nat → Int32), r9 = some a10 ∧ jar H1 a10 0 (aI n11 f12) ∧ vp_in (9 : Int32) n11 ∧
      Rt (.inl (some (jI (f12 ((9 : Int32)).toNatClampNeg)))) H1) ∧
    (¬ i_1 = 10 → (i_1 = 11 → ∃ (a13 : Nat) (fs14 : List JVal) (x15 : Int32), this = some a13 ∧ job H1 a13 3 fs14 ∧ jn fs14 12 = some (jI x15) ∧
      Rt (.inl (some (jI x15))) H1) ∧
    (¬ i_1 = 11 → (i_1 = 12 → ∃ (a16 : Nat) (fs17 : List JVal) (x18 : Int32), this = some a16 ∧ job H1 a16 3 fs17 ∧ jn fs17 1 = some (jI x18) ∧
      Rt (.inl (some (jI x18))) H1) ∧
    (¬ i_1 = 12 → Rt (.inl (some (jI (-1012)))) H1))))) ∧
  (¬ x2 = 0 →
    ∃ (a19 : Nat) (fs20 : List JVal) (r21 : Option Nat), this = some a19 ∧ job H1 a19 3 fs20 ∧ jn fs20 5 = some (jR r21) ∧
    ∃ (a22 n23 : Nat) (f24 : Nat → Int32), r21 = some a22 ∧ jar H1 a22 0 (aI n23 f24) ∧ vp_in i_1 n23 ∧
    Rt (.inl (some (jI (f24 (i_1).toNatClampNeg)))) H1)) :
  jwp (jprog G) 179 Rt 0 [some (jR this), some (jI i_1)] [] H :=
  junf_wp (jprog_nf G) (stop := jmem []) (pX3_account G) 4000 _ _ _ _ h
/-- UnheardBellsModel reason(Z)I @0 -/
theorem gX3_reason_0 (G : JG) {Rt : JRt} (this : Option Nat) (i_1 : Int32) {H : JHp} (h :
  ∃ (a1 : Nat) (fs2 : List JVal) (x3 : Int32), this = some a1 ∧ job H a1 3 fs2 ∧ jn fs2 2 = some (jI x3) ∧
  (¬ x3 = 0 →
    (i_1 = 0 →
      ∃ (a4 : Nat) (fs5 : List JVal) (x6 : Int32), this = some a4 ∧ job H a4 3 fs5 ∧ jn fs5 2 = some (jI x6) ∧
      Rt (.inl (some (jI x6))) H) ∧
    (¬ i_1 = 0 →
      ∃ (a7 : Nat) (fs8 : List JVal) (x9 : Int32), this = some a7 ∧ job H a7 3 fs8 ∧ jn fs8 3 = some (jI x9) ∧
      Rt (.inl (some (jI x9))) H)) ∧
  (¬ ¬ x3 = 0 →
    Rt (.inl (some (jI (-1015)))) H)) :
  jwp (jprog G) 181 Rt 0 [some (jR this), some (jI i_1)] [] H :=
  junf_wp (jprog_nf G) (stop := jmem []) (pX3_reason G) 4000 _ _ _ _ h
/-- UnheardBellsModel character(I)I @0 -/
theorem gX3_character_0 (G : JG) {Rt : JRt} (this : Option Nat) (i_1 : Int32) {H : JHp} (h :
  ∃ (a1 : Nat) (fs2 : List JVal) (x3 : Int32), this = some a1 ∧ job H a1 3 fs2 ∧ jn fs2 15 = some (jI x3) ∧
  /- X3_isIn -/ ∃ (x5 : Int32) (H4 : JHp), jok (jprog G) 178 [jI i_1, jI 0, jI (x3 - (1 : Int32))] H (.inl (some (jI x5))) H4 ∧
  (x5 = 0 →
    Rt (.inl (some (jI (-1011)))) H4) ∧
  (¬ x5 = 0 →
    ∃ (a6 : Nat) (fs7 : List JVal) (r8 : Option Nat), this = some a6 ∧ job H4 a6 3 fs7 ∧ jn fs7 11 = some (jR r8) ∧
    ∃ (a9 n10 : Nat) (f11 : Nat → Int32), r8 = some a9 ∧ jar H4 a9 0 (aI n10 f11) ∧ vp_in i_1 n10 ∧
    Rt (.inl (some (jI (f11 (i_1).toNatClampNeg)))) H4)) :
  jwp (jprog G) 190 Rt 0 [some (jR this), some (jI i_1)] [] H :=
  junf_wp (jprog_nf G) (stop := jmem []) (pX3_character G) 4000 _ _ _ _ h
/-- UnheardBellsModel writes(I)V @0 -/
theorem gX3_writes_0 (G : JG) {Rt : JRt} (this : Option Nat) (i_1 : Int32) {H : JHp} (h :
  ∃ (a1 : Nat) (fs2 : List JVal) (r3 : Option Nat), this = some a1 ∧ job H a1 3 fs2 ∧ jn fs2 11 = some (jR r3) ∧
  ∃ (a4 : Nat) (fs5 : List JVal) (x6 : Int32), this = some a4 ∧ job H a4 3 fs5 ∧ jn fs5 15 = some (jI x6) ∧
  ∃ (a7 n8 : Nat) (f9 : Nat → Int32), r3 = some a7 ∧ H.1 a7 = some (true, jA 0 (aI n8 f9)) ∧ vp_in x6 n8 ∧ 
  ∃ (a10 : Nat) (fs11 : List JVal) (x12 : Int32), this = some a10 ∧ job (jup H a7 (jA 0 (aI n8 (upd f9 (x6).toNatClampNeg i_1)))) a10 3 fs11 ∧ jn fs11 15 = some (jI x12) ∧
  ∃ (a13 : Nat) (fs14 : List JVal) (v15 : JVal), this = some a13 ∧ (jup H a7 (jA 0 (aI n8 (upd f9 (x6).toNatClampNeg i_1)))).1 a13 = some (true, jO 3 fs14) ∧ jn fs14 15 = some v15 ∧
  Rt (.inl none) (jup (jup H a7 (jA 0 (aI n8 (upd f9 (x6).toNatClampNeg i_1)))) a13 (jO 3 (jset fs14 15 (jI (x12 + (1 : Int32))))))) :
  jwp (jprog G) 215 Rt 0 [some (jR this), some (jI i_1)] [] H :=
  junf_wp (jprog_nf G) (stop := jmem []) (pX3_writes G) 4000 _ _ _ _ h
/-- UnheardBellsModel writesNumber(I)V @0 -/
theorem gX3_writesNumber_0 (G : JG) {Rt : JRt} (this : Option Nat) (i_1 : Int32) {H : JHp} (h :
  (i_1 < (10 : Int32) →
    ¬ (10 : Int32) = 0 ∧
    ∃ (a1 : Nat) (fs2 : List JVal), this = some a1 ∧ job H a1 3 fs2 ∧ /- X3_writes -/ ∃ H3 : JHp, jok (jprog G) 215 [jR this, jI ((48 : Int32) + (i_1 - i_1 / (10 : Int32) * (10 : Int32)))] H (.inl none) H3 ∧
    Rt (.inl none) H3) ∧
  (¬ i_1 < (10 : Int32) →
    ¬ (10 : Int32) = 0 ∧
    ∃ (a4 : Nat) (fs5 : List JVal), this = some a4 ∧ job H a4 3 fs5 ∧ /- X3_writes -/ ∃ H6 : JHp, jok (jprog G) 215 [jR this, jI ((48 : Int32) + (i_1 / (10 : Int32)))] H (.inl none) H6 ∧
    ¬ (10 : Int32) = 0 ∧
    ∃ (a7 : Nat) (fs8 : List JVal), this = some a7 ∧ job H6 a7 3 fs8 ∧ /- X3_writes -/ ∃ H9 : JHp, jok (jprog G) 215 [jR this, jI ((48 : Int32) + (i_1 - i_1 / (10 : Int32) * (10 : Int32)))] H6 (.inl none) H9 ∧
    Rt (.inl none) H9)) :
  jwp (jprog G) 216 Rt 0 [some (jR this), some (jI i_1)] [] H :=
  junf_wp (jprog_nf G) (stop := jmem []) (pX3_writesNumber G) 4000 _ _ _ _ h
/-- UnheardBellsModel ropesOf(II)I @0 -/
theorem gX3_ropesOf_0 (G : JG) {Rt : JRt} (this : Option Nat) (i_1 : Int32) (i_2 : Int32) {H : JHp} (h :
  jwp (jprog G) 217 Rt 5 [some (jR this), some (jI i_1), some (jI i_2), some (jI 0), some (jI 0)] [] H) :
  jwp (jprog G) 217 Rt 0 [some (jR this), some (jI i_1), some (jI i_2), none, none] [] H :=
  junf_wp (jprog_nf G) (stop := jmem [5]) (pX3_ropesOf G) 4000 _ _ _ _ h
/-- UnheardBellsModel ropesOf(II)I @5 -/
theorem gX3_ropesOf_5 (G : JG) {Rt : JRt} (r_0 : Option Nat) (i_1 : Int32) (i_2 : Int32) (i_3 : Int32) (i_4 : Int32) {H : JHp} (h :
  ∃ (a1 : Nat) (fs2 : List JVal) (r3 : Option Nat), r_0 = some a1 ∧ job H a1 3 fs2 ∧ jn fs2 5 = some (jR r3) ∧
  ∃ (a4 n5 : Nat) (f6 : Nat → Int32), r3 = some a4 ∧ jar H a4 0 (aI n5 f6) ∧ vp_in (0 : Int32) n5 ∧
  ((f6 ((0 : Int32)).toNatClampNeg) ≤ i_4 →
    Rt (.inl (some (jI i_3))) H) ∧
  (¬ (f6 ((0 : Int32)).toNatClampNeg) ≤ i_4 →
    ∃ (a7 : Nat) (fs8 : List JVal) (r9 : Option Nat), r_0 = some a7 ∧ job H a7 3 fs8 ∧ jn fs8 5 = some (jR r9) ∧
    /- X3_at -/ ∃ (x11 : Int32) (H10 : JHp), jok (jprog G) 121 [jI i_4, jI 0] H (.inl (some (jI x11))) H10 ∧
    ∃ (a12 n13 : Nat) (f14 : Nat → Int32), r9 = some a12 ∧ jar H10 a12 0 (aI n13 f14) ∧ vp_in x11 n13 ∧
    (¬ (f14 (x11).toNatClampNeg) = i_1 →
      jwp (jprog G) 217 Rt 5 [some (jR r_0), some (jI i_1), some (jI i_2), some (jI (i_3 + (0 : Int32))), some (jI (i_4 + 1))] [] H10) ∧
    (¬ ¬ (f14 (x11).toNatClampNeg) = i_1 →
      (¬ ((jshr i_2 i_4) &&& (1 : Int32)) = (1 : Int32) →
        jwp (jprog G) 217 Rt 5 [some (jR r_0), some (jI i_1), some (jI i_2), some (jI (i_3 + (0 : Int32))), some (jI (i_4 + 1))] [] H10) ∧
      (¬ ¬ ((jshr i_2 i_4) &&& (1 : Int32)) = (1 : Int32) →
        jwp (jprog G) 217 Rt 5 [some (jR r_0), some (jI i_1), some (jI i_2), some (jI (i_3 + (1 : Int32))), some (jI (i_4 + 1))] [] H10)))) :
  jwp (jprog G) 217 Rt 5 [some (jR r_0), some (jI i_1), some (jI i_2), some (jI i_3), some (jI i_4)] [] H :=
  junf_wp (jprog_nf G) (stop := jmem [5]) (pX3_ropesOf G) 4000 _ _ _ _ h
/-- UnheardBellsModel guessed(I)I @0 -/
theorem gX3_guessed_0 (G : JG) {Rt : JRt} (this : Option Nat) (i_1 : Int32) {H : JHp} (h :
  ∃ (a1 : Nat) (fs2 : List JVal) (r3 : Option Nat), this = some a1 ∧ job H a1 3 fs2 ∧ jn fs2 5 = some (jR r3) ∧
  ∃ (a4 n5 : Nat) (f6 : Nat → Int32), r3 = some a4 ∧ jar H a4 0 (aI n5 f6) ∧ vp_in ((211 : Int32) + i_1) n5 ∧
  jwp (jprog G) 218 Rt 22 [some (jR this), some (jI i_1), some (jI (f6 (((211 : Int32) + i_1)).toNatClampNeg)), some (jI (-1)), some (jI 0), some (jI 1), some (jI 0), none, none, none] [] H) :
  jwp (jprog G) 218 Rt 0 [some (jR this), some (jI i_1), none, none, none, none, none, none, none, none] [] H :=
  junf_wp (jprog_nf G) (stop := jmem [22]) (pX3_guessed G) 4000 _ _ _ _ h
/-- UnheardBellsModel guessed(I)I @22 -/
theorem gX3_guessed_22 (G : JG) {Rt : JRt} (r_0 : Option Nat) (q_1 : Option JVal) (i_2 : Int32) (i_3 : Int32) (i_4 : Int32) (i_5 : Int32) (i_6 : Int32) (q_7 : Option JVal) (q_8 : Option JVal) (q_9 : Option JVal) {H : JHp} (h :
  ((4 : Int32) ≤ i_6 →
    (0 ≤ i_3 →
      Rt (.inl (some (jI i_3))) H) ∧
    (¬ 0 ≤ i_3 →
      Rt (.inl (some (jI (-1015)))) H)) ∧
  (¬ (4 : Int32) ≤ i_6 →
    (i_2 = 0 →
      (0 ≤ i_3 →
        Rt (.inl (some (jI i_3))) H) ∧
      (¬ 0 ≤ i_3 →
        Rt (.inl (some (jI (-1015)))) H)) ∧
    (¬ i_2 = 0 →
      ∃ (a1 : Nat) (fs2 : List JVal), r_0 = some a1 ∧ job H a1 3 fs2 ∧ /- X3_ropesOf -/ ∃ (x4 : Int32) (H3 : JHp), jok (jprog G) 217 [jR r_0, jI i_6, jI i_2] H (.inl (some (jI x4))) H3 ∧
      ∃ (a5 : Nat) (fs6 : List JVal), r_0 = some a5 ∧ job H3 a5 3 fs6 ∧ /- X3_ropesOf -/ ∃ (x8 : Int32) (H7 : JHp), jok (jprog G) 217 [jR r_0, jI i_6, jI (-1)] H3 (.inl (some (jI x8))) H7 ∧
      (¬ x4 = 0 →
        (i_3 < 0 →
          jwp (jprog G) 218 Rt 22 [some (jR r_0), q_1, some (jI i_2), some (jI i_6), some (jI x4), some (jI x8), some (jI (i_6 + 1)), some (jI x4), some (jI x8), some (jI ((x4 * i_5) - (i_4 * x8)))] [] H7) ∧
        (¬ i_3 < 0 →
          (((x4 * i_5) - (i_4 * x8)) < 0 →
            jwp (jprog G) 218 Rt 22 [some (jR r_0), q_1, some (jI i_2), some (jI i_3), some (jI i_4), some (jI i_5), some (jI (i_6 + 1)), some (jI x4), some (jI x8), some (jI ((x4 * i_5) - (i_4 * x8)))] [] H7) ∧
          (¬ ((x4 * i_5) - (i_4 * x8)) < 0 →
            (¬ ((x4 * i_5) - (i_4 * x8)) = 0 →
              jwp (jprog G) 218 Rt 22 [some (jR r_0), q_1, some (jI i_2), some (jI i_6), some (jI x4), some (jI x8), some (jI (i_6 + 1)), some (jI x4), some (jI x8), some (jI ((x4 * i_5) - (i_4 * x8)))] [] H7) ∧
            (¬ ¬ ((x4 * i_5) - (i_4 * x8)) = 0 →
              (i_4 < x4 →
                jwp (jprog G) 218 Rt 22 [some (jR r_0), q_1, some (jI i_2), some (jI i_6), some (jI x4), some (jI x8), some (jI (i_6 + 1)), some (jI x4), some (jI x8), some (jI ((x4 * i_5) - (i_4 * x8)))] [] H7) ∧
              (¬ i_4 < x4 →
                jwp (jprog G) 218 Rt 22 [some (jR r_0), q_1, some (jI i_2), some (jI i_3), some (jI i_4), some (jI i_5), some (jI (i_6 + 1)), some (jI x4), some (jI x8), some (jI ((x4 * i_5) - (i_4 * x8)))] [] H7))))) ∧
      (¬ ¬ x4 = 0 →
        jwp (jprog G) 218 Rt 22 [some (jR r_0), q_1, some (jI i_2), some (jI i_3), some (jI i_4), some (jI i_5), some (jI (i_6 + 1)), some (jI x4), some (jI x8), q_9] [] H7)))) :
  jwp (jprog G) 218 Rt 22 [some (jR r_0), q_1, some (jI i_2), some (jI i_3), some (jI i_4), some (jI i_5), some (jI i_6), q_7, q_8, q_9] [] H :=
  junf_wp (jprog_nf G) (stop := jmem [22]) (pX3_guessed G) 4000 _ _ _ _ h
/-- UnheardBellsModel tellDay()I @0 -/
theorem gX3_tellDay_0 (G : JG) {Rt : JRt} (this : Option Nat) {H : JHp} (h :
  ∃ (a1 : Nat) (fs2 : List JVal) (v3 : JVal), this = some a1 ∧ H.1 a1 = some (true, jO 3 fs2) ∧ jn fs2 15 = some v3 ∧
  jwp (jprog G) 219 Rt 7 [some (jR this), some (jI 0)] [] (jup H a1 (jO 3 (jset fs2 15 (jI 0))))) :
  jwp (jprog G) 219 Rt 0 [some (jR this), none] [] H :=
  junf_wp (jprog_nf G) (stop := jmem [7]) (pX3_tellDay G) 4000 _ _ _ _ h
/-- UnheardBellsModel tellDay()I @7 -/
theorem gX3_tellDay_7 (G : JG) {Rt : JRt} (r_0 : Option Nat) (i_1 : Int32) {H : JHp} (h :
  ((24 : Int32) ≤ i_1 →
    ∃ (a1 : Nat) (fs2 : List JVal) (x3 : Int32), r_0 = some a1 ∧ job H a1 3 fs2 ∧ jn fs2 15 = some (jI x3) ∧
    Rt (.inl (some (jI x3))) H) ∧
  (¬ (24 : Int32) ≤ i_1 →
    ∃ (a4 : Nat) (fs5 : List JVal) (r6 : Option Nat), r_0 = some a4 ∧ job H a4 3 fs5 ∧ jn fs5 5 = some (jR r6) ∧
    ∃ (a7 n8 : Nat) (f9 : Nat → Int32), r6 = some a7 ∧ jar H a7 0 (aI n8 f9) ∧ vp_in ((211 : Int32) + i_1) n8 ∧
    (¬ (f9 (((211 : Int32) + i_1)).toNatClampNeg) = 0 →
      ∃ (a10 : Nat) (fs11 : List JVal) (x12 : Int32), r_0 = some a10 ∧ job H a10 3 fs11 ∧ jn fs11 15 = some (jI x12) ∧
      (x12 ≤ 0 →
        ∃ (a13 : Nat) (fs14 : List JVal), r_0 = some a13 ∧ job H a13 3 fs14 ∧ /- X3_writesNumber -/ ∃ H15 : JHp, jok (jprog G) 216 [jR r_0, jI i_1] H (.inl none) H15 ∧
        ∃ (a16 : Nat) (fs17 : List JVal), r_0 = some a16 ∧ job H15 a16 3 fs17 ∧ /- X3_writes -/ ∃ H18 : JHp, jok (jprog G) 215 [jR r_0, jI 61] H15 (.inl none) H18 ∧
        ∃ (a19 : Nat) (fs20 : List JVal), r_0 = some a19 ∧ job H18 a19 3 fs20 ∧ /- X3_guessed -/ ∃ (x22 : Int32) (H21 : JHp), jok (jprog G) 218 [jR r_0, jI i_1] H18 (.inl (some (jI x22))) H21 ∧
        ∃ (a23 : Nat) (fs24 : List JVal), r_0 = some a23 ∧ job H21 a23 3 fs24 ∧ /- X3_writesNumber -/ ∃ H25 : JHp, jok (jprog G) 216 [jR r_0, jI x22] H21 (.inl none) H25 ∧
        jwp (jprog G) 219 Rt 7 [some (jR r_0), some (jI (i_1 + 1))] [] H25) ∧
      (¬ x12 ≤ 0 →
        ∃ (a26 : Nat) (fs27 : List JVal), r_0 = some a26 ∧ job H a26 3 fs27 ∧ /- X3_writes -/ ∃ H28 : JHp, jok (jprog G) 215 [jR r_0, jI 32] H (.inl none) H28 ∧
        ∃ (a29 : Nat) (fs30 : List JVal), r_0 = some a29 ∧ job H28 a29 3 fs30 ∧ /- X3_writesNumber -/ ∃ H31 : JHp, jok (jprog G) 216 [jR r_0, jI i_1] H28 (.inl none) H31 ∧
        ∃ (a32 : Nat) (fs33 : List JVal), r_0 = some a32 ∧ job H31 a32 3 fs33 ∧ /- X3_writes -/ ∃ H34 : JHp, jok (jprog G) 215 [jR r_0, jI 61] H31 (.inl none) H34 ∧
        ∃ (a35 : Nat) (fs36 : List JVal), r_0 = some a35 ∧ job H34 a35 3 fs36 ∧ /- X3_guessed -/ ∃ (x38 : Int32) (H37 : JHp), jok (jprog G) 218 [jR r_0, jI i_1] H34 (.inl (some (jI x38))) H37 ∧
        ∃ (a39 : Nat) (fs40 : List JVal), r_0 = some a39 ∧ job H37 a39 3 fs40 ∧ /- X3_writesNumber -/ ∃ H41 : JHp, jok (jprog G) 216 [jR r_0, jI x38] H37 (.inl none) H41 ∧
        jwp (jprog G) 219 Rt 7 [some (jR r_0), some (jI (i_1 + 1))] [] H41)) ∧
    (¬ ¬ (f9 (((211 : Int32) + i_1)).toNatClampNeg) = 0 →
      jwp (jprog G) 219 Rt 7 [some (jR r_0), some (jI (i_1 + 1))] [] H))) :
  jwp (jprog G) 219 Rt 7 [some (jR r_0), some (jI i_1)] [] H :=
  junf_wp (jprog_nf G) (stop := jmem [7]) (pX3_tellDay G) 4000 _ _ _ _ h
/-- UnheardBellsModel isRope(I)Z @0 -/
theorem gX3_isRope_0 (G : JG) {Rt : JRt} (this : Option Nat) (i_1 : Int32) {H : JHp} (h :
  ∃ (a1 : Nat) (fs2 : List JVal) (r3 : Option Nat), this = some a1 ∧ job H a1 3 fs2 ∧ jn fs2 5 = some (jR r3) ∧
  ∃ (a4 n5 : Nat) (f6 : Nat → Int32), r3 = some a4 ∧ jar H a4 0 (aI n5 f6) ∧ vp_in (0 : Int32) n5 ∧
  /- X3_isIn -/ ∃ (x8 : Int32) (H7 : JHp), jok (jprog G) 178 [jI i_1, jI 0, jI ((f6 ((0 : Int32)).toNatClampNeg) - (1 : Int32))] H (.inl (some (jI x8))) H7 ∧
  jbool x8 ∧ Rt (.inl (some (jI x8))) H7) :
  jwp (jprog G) 223 Rt 0 [some (jR this), some (jI i_1)] [] H :=
  junf_wp (jprog_nf G) (stop := jmem []) (pX3_isRope G) 4000 _ _ _ _ h
/-- UnheardBellsModel pulled(II)I @0 -/
theorem gX3_pulled_0 (G : JG) {Rt : JRt} (this : Option Nat) (i_1 : Int32) (i_2 : Int32) {H : JHp} (h :
  ∃ (a1 : Nat) (fs2 : List JVal) (r3 : Option Nat), this = some a1 ∧ job H a1 3 fs2 ∧ jn fs2 5 = some (jR r3) ∧
  ∃ (a4 n5 : Nat) (f6 : Nat → Int32), r3 = some a4 ∧ jar H a4 0 (aI n5 f6) ∧ vp_in (((83 : Int32) + ((3 : Int32) * i_1)) + i_2) n5 ∧
  Rt (.inl (some (jI (f6 ((((83 : Int32) + ((3 : Int32) * i_1)) + i_2)).toNatClampNeg)))) H) :
  jwp (jprog G) 224 Rt 0 [some (jR this), some (jI i_1), some (jI i_2)] [] H :=
  junf_wp (jprog_nf G) (stop := jmem []) (pX3_pulled G) 4000 _ _ _ _ h
/-- UnheardBellsModel tell(I)I @0 -/
theorem gX3_tell_0 (G : JG) {Rt : JRt} (this : Option Nat) (i_1 : Int32) {H : JHp} (h :
  ∃ (a1 : Nat) (fs2 : List JVal), this = some a1 ∧ job H a1 3 fs2 ∧ /- X3_isRope -/ ∃ (x4 : Int32) (H3 : JHp), jok (jprog G) 223 [jR this, jI i_1] H (.inl (some (jI x4))) H3 ∧
  (¬ x4 = 0 →
    ∃ (a5 : Nat) (fs6 : List JVal) (v7 : JVal), this = some a5 ∧ H3.1 a5 = some (true, jO 3 fs6) ∧ jn fs6 15 = some v7 ∧
    ∃ (a8 : Nat) (fs9 : List JVal), this = some a8 ∧ job (jup H3 a5 (jO 3 (jset fs6 15 (jI 0)))) a8 3 fs9 ∧ /- X3_writesNumber -/ ∃ H10 : JHp, jok (jprog G) 216 [jR this, jI i_1] (jup H3 a5 (jO 3 (jset fs6 15 (jI 0)))) (.inl none) H10 ∧
    ∃ (a11 : Nat) (fs12 : List JVal), this = some a11 ∧ job H10 a11 3 fs12 ∧ /- X3_writes -/ ∃ H13 : JHp, jok (jprog G) 215 [jR this, jI 58] H10 (.inl none) H13 ∧
    ∃ (a14 : Nat) (fs15 : List JVal) (r16 : Option Nat), this = some a14 ∧ job H13 a14 3 fs15 ∧ jn fs15 5 = some (jR r16) ∧
    /- X3_at -/ ∃ (x18 : Int32) (H17 : JHp), jok (jprog G) 121 [jI i_1, jI 0] H13 (.inl (some (jI x18))) H17 ∧
    ∃ (a19 n20 : Nat) (f21 : Nat → Int32), r16 = some a19 ∧ jar H17 a19 0 (aI n20 f21) ∧ vp_in x18 n20 ∧
    ∃ (a22 : Nat) (fs23 : List JVal), this = some a22 ∧ job H17 a22 3 fs23 ∧ /- X3_writesNumber -/ ∃ H24 : JHp, jok (jprog G) 216 [jR this, jI (f21 (x18).toNatClampNeg)] H17 (.inl none) H24 ∧
    ∃ (a25 : Nat) (fs26 : List JVal) (r27 : Option Nat), this = some a25 ∧ job H24 a25 3 fs26 ∧ jn fs26 5 = some (jR r27) ∧
    /- X3_at -/ ∃ (x29 : Int32) (H28 : JHp), jok (jprog G) 121 [jI i_1, jI 1] H24 (.inl (some (jI x29))) H28 ∧
    ∃ (a30 n31 : Nat) (f32 : Nat → Int32), r27 = some a30 ∧ jar H28 a30 0 (aI n31 f32) ∧ vp_in x29 n31 ∧
    (¬ (f32 (x29).toNatClampNeg) = 0 →
      jwp (jprog G) 225 Rt 63 [some (jR this), some (jI i_1), some (jI 0)] [] H28) ∧
    (¬ ¬ (f32 (x29).toNatClampNeg) = 0 →
      ∃ (a33 : Nat) (fs34 : List JVal), this = some a33 ∧ job H28 a33 3 fs34 ∧ /- X3_writes -/ ∃ H35 : JHp, jok (jprog G) 215 [jR this, jI 35] H28 (.inl none) H35 ∧
      jwp (jprog G) 225 Rt 63 [some (jR this), some (jI i_1), some (jI 0)] [] H35)) ∧
  (¬ ¬ x4 = 0 →
    Rt (.inl (some (jI (-1011)))) H3)) :
  jwp (jprog G) 225 Rt 0 [some (jR this), some (jI i_1), none] [] H :=
  junf_wp (jprog_nf G) (stop := jmem [63, 91]) (pX3_tell G) 4000 _ _ _ _ h
/-- UnheardBellsModel tell(I)I @63 -/
theorem gX3_tell_63 (G : JG) {Rt : JRt} (r_0 : Option Nat) (i_1 : Int32) (i_2 : Int32) {H : JHp} (h :
  ∃ (a1 : Nat) (fs2 : List JVal) (r3 : Option Nat), r_0 = some a1 ∧ job H a1 3 fs2 ∧ jn fs2 5 = some (jR r3) ∧
  /- X3_at -/ ∃ (x5 : Int32) (H4 : JHp), jok (jprog G) 121 [jI i_1, jI 2] H (.inl (some (jI x5))) H4 ∧
  ∃ (a6 n7 : Nat) (f8 : Nat → Int32), r3 = some a6 ∧ jar H4 a6 0 (aI n7 f8) ∧ vp_in x5 n7 ∧
  ((f8 (x5).toNatClampNeg) ≤ i_2 →
    jwp (jprog G) 225 Rt 91 [some (jR r_0), some (jI i_1), some (jI 0)] [] H4) ∧
  (¬ (f8 (x5).toNatClampNeg) ≤ i_2 →
    ∃ (a9 : Nat) (fs10 : List JVal), r_0 = some a9 ∧ job H4 a9 3 fs10 ∧ /- X3_writes -/ ∃ H11 : JHp, jok (jprog G) 215 [jR r_0, jI 126] H4 (.inl none) H11 ∧
    jwp (jprog G) 225 Rt 63 [some (jR r_0), some (jI i_1), some (jI (i_2 + 1))] [] H11)) :
  jwp (jprog G) 225 Rt 63 [some (jR r_0), some (jI i_1), some (jI i_2)] [] H :=
  junf_wp (jprog_nf G) (stop := jmem [63, 91]) (pX3_tell G) 4000 _ _ _ _ h
/-- UnheardBellsModel tell(I)I @91 -/
theorem gX3_tell_91 (G : JG) {Rt : JRt} (r_0 : Option Nat) (i_1 : Int32) (i_2 : Int32) {H : JHp} (h :
  ∃ (a1 : Nat) (fs2 : List JVal) (r3 : Option Nat), r_0 = some a1 ∧ job H a1 3 fs2 ∧ jn fs2 5 = some (jR r3) ∧
  ∃ (a4 n5 : Nat) (f6 : Nat → Int32), r3 = some a4 ∧ jar H a4 0 (aI n5 f6) ∧ vp_in (1 : Int32) n5 ∧
  ((f6 ((1 : Int32)).toNatClampNeg) ≤ i_2 →
    ∃ (a7 : Nat) (fs8 : List JVal) (x9 : Int32), r_0 = some a7 ∧ job H a7 3 fs8 ∧ jn fs8 15 = some (jI x9) ∧
    Rt (.inl (some (jI x9))) H) ∧
  (¬ (f6 ((1 : Int32)).toNatClampNeg) ≤ i_2 →
    ∃ (a10 : Nat) (fs11 : List JVal), r_0 = some a10 ∧ job H a10 3 fs11 ∧ /- X3_pulled -/ ∃ (x13 : Int32) (H12 : JHp), jok (jprog G) 224 [jR r_0, jI i_2, jI 0] H (.inl (some (jI x13))) H12 ∧
    (x13 = i_1 →
      ∃ (a14 : Nat) (fs15 : List JVal), r_0 = some a14 ∧ job H12 a14 3 fs15 ∧ /- X3_writes -/ ∃ H16 : JHp, jok (jprog G) 215 [jR r_0, jI 64] H12 (.inl none) H16 ∧
      ∃ (a17 : Nat) (fs18 : List JVal), r_0 = some a17 ∧ job H16 a17 3 fs18 ∧ /- X3_pulled -/ ∃ (x20 : Int32) (H19 : JHp), jok (jprog G) 224 [jR r_0, jI i_2, jI 1] H16 (.inl (some (jI x20))) H19 ∧
      ∃ (a21 : Nat) (fs22 : List JVal), r_0 = some a21 ∧ job H19 a21 3 fs22 ∧ /- X3_writesNumber -/ ∃ H23 : JHp, jok (jprog G) 216 [jR r_0, jI x20] H19 (.inl none) H23 ∧
      ∃ (a24 : Nat) (fs25 : List JVal), r_0 = some a24 ∧ job H23 a24 3 fs25 ∧ /- X3_writes -/ ∃ H26 : JHp, jok (jprog G) 215 [jR r_0, jI 42] H23 (.inl none) H26 ∧
      ∃ (a27 : Nat) (fs28 : List JVal), r_0 = some a27 ∧ job H26 a27 3 fs28 ∧ /- X3_pulled -/ ∃ (x30 : Int32) (H29 : JHp), jok (jprog G) 224 [jR r_0, jI i_2, jI 2] H26 (.inl (some (jI x30))) H29 ∧
      ∃ (a31 : Nat) (fs32 : List JVal), r_0 = some a31 ∧ job H29 a31 3 fs32 ∧ /- X3_writesNumber -/ ∃ H33 : JHp, jok (jprog G) 216 [jR r_0, jI x30] H29 (.inl none) H33 ∧
      jwp (jprog G) 225 Rt 91 [some (jR r_0), some (jI i_1), some (jI (i_2 + 1))] [] H33) ∧
    (¬ x13 = i_1 →
      jwp (jprog G) 225 Rt 91 [some (jR r_0), some (jI i_1), some (jI (i_2 + 1))] [] H12))) :
  jwp (jprog G) 225 Rt 91 [some (jR r_0), some (jI i_1), some (jI i_2)] [] H :=
  junf_wp (jprog_nf G) (stop := jmem [63, 91]) (pX3_tell G) 4000 _ _ _ _ h
/-- UnheardBellsModel begins()V @0 -/
theorem gX3_begins_0 (G : JG) {Rt : JRt} (this : Option Nat) {H : JHp} (h :
  ∃ (a1 : Nat) (fs2 : List JVal) (v3 : JVal), this = some a1 ∧ H.1 a1 = some (true, jO 3 fs2) ∧ jn fs2 0 = some v3 ∧
  ∃ (a4 : Nat) (fs5 : List JVal) (r6 : Option Nat), this = some a4 ∧ job (jup H a1 (jO 3 (jset fs2 0 (jI 0)))) a4 3 fs5 ∧ jn fs5 6 = some (jR r6) ∧
  ∃ (a7 : Nat) (fs8 : List JVal) (r9 : Option Nat), this = some a7 ∧ job (jup H a1 (jO 3 (jset fs2 0 (jI 0)))) a7 3 fs8 ∧ jn fs8 5 = some (jR r9) ∧
  /- X3_lays -/ ∃ H10 : JHp, jok (jprog G) 106 [jR r6, jR r9] (jup H a1 (jO 3 (jset fs2 0 (jI 0)))) (.inl none) H10 ∧
  Rt (.inl none) H10) :
  jwp (jprog G) 293 Rt 0 [some (jR this)] [] H :=
  junf_wp (jprog_nf G) (stop := jmem []) (pX3_begins G) 4000 _ _ _ _ h
/-- UnheardBellsModel sign()I @0 -/
theorem gX3_sign_0 (G : JG) {Rt : JRt} (this : Option Nat) {H : JHp} (h :
  ∃ (a1 : Nat) (fs2 : List JVal) (x3 : Int32), this = some a1 ∧ job H a1 3 fs2 ∧ jn fs2 13 = some (jI x3) ∧
  ∃ (a4 : Nat) (fs5 : List JVal) (x6 : Int32), this = some a4 ∧ job H a4 3 fs5 ∧ jn fs5 14 = some (jI x6) ∧
  (x6 ≤ x3 →
    Rt (.inl (some (jI (-1)))) H) ∧
  (¬ x6 ≤ x3 →
    ∃ (a7 : Nat) (fs8 : List JVal) (r9 : Option Nat), this = some a7 ∧ job H a7 3 fs8 ∧ jn fs8 10 = some (jR r9) ∧
    ∃ (a10 : Nat) (fs11 : List JVal) (x12 : Int32), this = some a10 ∧ job H a10 3 fs11 ∧ jn fs11 13 = some (jI x12) ∧
    ∃ (a13 n14 : Nat) (f15 : Nat → Int32), r9 = some a13 ∧ jar H a13 0 (aI n14 f15) ∧ vp_in x12 n14 ∧
    Rt (.inl (some (jI (f15 (x12).toNatClampNeg)))) H)) :
  jwp (jprog G) 294 Rt 0 [some (jR this)] [] H :=
  junf_wp (jprog_nf G) (stop := jmem []) (pX3_sign G) 4000 _ _ _ _ h
/-- UnheardBellsModel isKnown(I)Z @0 -/
theorem gX3_isKnown_0 (G : JG) {Rt : JRt} (i_0 : Int32) {H : JHp} (h :
  (i_0 = (114 : Int32) →
    jbool (1 : Int32) ∧ Rt (.inl (some (jI 1))) H) ∧
  (¬ i_0 = (114 : Int32) →
    (i_0 = (118 : Int32) →
      jbool (1 : Int32) ∧ Rt (.inl (some (jI 1))) H) ∧
    (¬ i_0 = (118 : Int32) →
      (i_0 = (115 : Int32) →
        jbool (1 : Int32) ∧ Rt (.inl (some (jI 1))) H) ∧
      (¬ i_0 = (115 : Int32) →
        (i_0 = (112 : Int32) →
          jbool (1 : Int32) ∧ Rt (.inl (some (jI 1))) H) ∧
        (¬ i_0 = (112 : Int32) →
          (i_0 = (99 : Int32) →
            jbool (1 : Int32) ∧ Rt (.inl (some (jI 1))) H) ∧
          (¬ i_0 = (99 : Int32) →
            (i_0 = (110 : Int32) →
              jbool (1 : Int32) ∧ Rt (.inl (some (jI 1))) H) ∧
            (¬ i_0 = (110 : Int32) →
              (i_0 = (104 : Int32) →
                jbool (1 : Int32) ∧ Rt (.inl (some (jI 1))) H) ∧
              (¬ i_0 = (104 : Int32) →
                (i_0 = (111 : Int32) →
                  jbool (1 : Int32) ∧ Rt (.inl (some (jI 1))) H) ∧
                (¬ i_0 = (111 : Int32) →
                  (¬ i_0 = (101 : Int32) →
                    jbool (0 : Int32) ∧ Rt (.inl (some (jI 0))) H) ∧
                  (¬ ¬ i_0 = (101 : Int32) →
                    jbool (1 : Int32) ∧ Rt (.inl (some (jI 1))) H)))))))))) :
  jwp (jprog G) 295 Rt 0 [some (jI i_0)] [] H :=
  junf_wp (jprog_nf G) (stop := jmem []) (pX3_isKnown G) 4000 _ _ _ _ h
/-- UnheardBellsModel digits(I)I @0 -/
theorem gX3_digits_0 (G : JG) {Rt : JRt} (this : Option Nat) (i_1 : Int32) {H : JHp} (h :
  jwp (jprog G) 296 Rt 4 [some (jR this), some (jI i_1), some (jI 0), some (jI 0)] [] H) :
  jwp (jprog G) 296 Rt 0 [some (jR this), some (jI i_1), none, none] [] H :=
  junf_wp (jprog_nf G) (stop := jmem [4, 59]) (pX3_digits G) 4000 _ _ _ _ h
/-- UnheardBellsModel digits(I)I @4 -/
theorem gX3_digits_4 (G : JG) {Rt : JRt} (r_0 : Option Nat) (i_1 : Int32) (i_2 : Int32) (i_3 : Int32) {H : JHp} (h :
  ∃ (a1 : Nat) (fs2 : List JVal) (x3 : Int32), r_0 = some a1 ∧ job H a1 3 fs2 ∧ jn fs2 16 = some (jI x3) ∧
  (¬ x3 = 0 →
    jwp (jprog G) 296 Rt 59 [some (jR r_0), some (jI i_1), some (jI i_2), some (jI i_3)] [] H) ∧
  (¬ ¬ x3 = 0 →
    (i_1 ≤ i_3 →
      jwp (jprog G) 296 Rt 59 [some (jR r_0), some (jI i_1), some (jI i_2), some (jI i_3)] [] H) ∧
    (¬ i_1 ≤ i_3 →
      ∃ (a4 : Nat) (fs5 : List JVal), r_0 = some a4 ∧ job H a4 3 fs5 ∧ /- X3_sign -/ ∃ (x7 : Int32) (H6 : JHp), jok (jprog G) 294 [jR r_0] H (.inl (some (jI x7))) H6 ∧
      /- X3_isIn -/ ∃ (x9 : Int32) (H8 : JHp), jok (jprog G) 178 [jI x7, jI 48, jI 57] H6 (.inl (some (jI x9))) H8 ∧
      (x9 = 0 →
        jwp (jprog G) 296 Rt 59 [some (jR r_0), some (jI i_1), some (jI i_2), some (jI i_3)] [] H8) ∧
      (¬ x9 = 0 →
        ∃ (a10 : Nat) (fs11 : List JVal), r_0 = some a10 ∧ job H8 a10 3 fs11 ∧ /- X3_sign -/ ∃ (x13 : Int32) (H12 : JHp), jok (jprog G) 294 [jR r_0] H8 (.inl (some (jI x13))) H12 ∧
        ∃ (a14 : Nat) (fs15 : List JVal) (x16 : Int32), r_0 = some a14 ∧ job H12 a14 3 fs15 ∧ jn fs15 13 = some (jI x16) ∧
        ∃ (a17 : Nat) (fs18 : List JVal) (v19 : JVal), r_0 = some a17 ∧ H12.1 a17 = some (true, jO 3 fs18) ∧ jn fs18 13 = some v19 ∧
        jwp (jprog G) 296 Rt 4 [some (jR r_0), some (jI i_1), some (jI ((((10 : Int32) * i_2) + x13) - (48 : Int32))), some (jI (i_3 + 1))] [] (jup H12 a17 (jO 3 (jset fs18 13 (jI (x16 + (1 : Int32)))))))))) :
  jwp (jprog G) 296 Rt 4 [some (jR r_0), some (jI i_1), some (jI i_2), some (jI i_3)] [] H :=
  junf_wp (jprog_nf G) (stop := jmem [4, 59]) (pX3_digits G) 4000 _ _ _ _ h
/-- UnheardBellsModel digits(I)I @59 -/
theorem gX3_digits_59 (G : JG) {Rt : JRt} (r_0 : Option Nat) (q_1 : Option JVal) (i_2 : Int32) (i_3 : Int32) {H : JHp} (h :
  ∃ (a1 : Nat) (fs2 : List JVal) (x3 : Int32), r_0 = some a1 ∧ job H a1 3 fs2 ∧ jn fs2 16 = some (jI x3) ∧
  (¬ i_3 = 0 →
    jbool (x3 ||| (0 : Int32)) ∧ ∃ (a4 : Nat) (fs5 : List JVal) (v6 : JVal), r_0 = some a4 ∧ H.1 a4 = some (true, jO 3 fs5) ∧ jn fs5 16 = some v6 ∧
    Rt (.inl (some (jI i_2))) (jup H a4 (jO 3 (jset fs5 16 (jI (x3 ||| (0 : Int32))))))) ∧
  (¬ ¬ i_3 = 0 →
    jbool (x3 ||| (1 : Int32)) ∧ ∃ (a7 : Nat) (fs8 : List JVal) (v9 : JVal), r_0 = some a7 ∧ H.1 a7 = some (true, jO 3 fs8) ∧ jn fs8 16 = some v9 ∧
    Rt (.inl (some (jI i_2))) (jup H a7 (jO 3 (jset fs8 16 (jI (x3 ||| (1 : Int32)))))))) :
  jwp (jprog G) 296 Rt 59 [some (jR r_0), q_1, some (jI i_2), some (jI i_3)] [] H :=
  junf_wp (jprog_nf G) (stop := jmem [4, 59]) (pX3_digits G) 4000 _ _ _ _ h
/-- UnheardBellsModel mark(I)V @0 -/
theorem gX3_mark_0 (G : JG) {Rt : JRt} (this : Option Nat) (i_1 : Int32) {H : JHp} (h :
  ∃ (a1 : Nat) (fs2 : List JVal) (x3 : Int32), this = some a1 ∧ job H a1 3 fs2 ∧ jn fs2 16 = some (jI x3) ∧
  (x3 = 0 →
    ∃ (a4 : Nat) (fs5 : List JVal), this = some a4 ∧ job H a4 3 fs5 ∧ /- X3_sign -/ ∃ (x7 : Int32) (H6 : JHp), jok (jprog G) 294 [jR this] H (.inl (some (jI x7))) H6 ∧
    (x7 = i_1 →
      jwp (jprog G) 297 Rt 22 [some (jR this), some (jI i_1)] [jI 0, jR this] H6) ∧
    (¬ x7 = i_1 →
      jwp (jprog G) 297 Rt 22 [some (jR this), some (jI i_1)] [jI 1, jR this] H6)) ∧
  (¬ x3 = 0 →
    Rt (.inl none) H)) :
  jwp (jprog G) 297 Rt 0 [some (jR this), some (jI i_1)] [] H :=
  junf_wp (jprog_nf G) (stop := jmem [22]) (pX3_mark G) 4000 _ _ _ _ h
/-- UnheardBellsModel mark(I)V @22 -/
theorem gX3_mark_22 (G : JG) {Rt : JRt} (r_0 : Option Nat) (q_1 : Option JVal) (sr_0 : Option Nat) (si_1 : Int32) {H : JHp} (h :
  jbool si_1 ∧ ∃ (a1 : Nat) (fs2 : List JVal) (v3 : JVal), sr_0 = some a1 ∧ H.1 a1 = some (true, jO 3 fs2) ∧ jn fs2 16 = some v3 ∧
  ∃ (a4 : Nat) (fs5 : List JVal) (x6 : Int32), r_0 = some a4 ∧ job (jup H a1 (jO 3 (jset fs2 16 (jI si_1)))) a4 3 fs5 ∧ jn fs5 13 = some (jI x6) ∧
  ∃ (a7 : Nat) (fs8 : List JVal) (x9 : Int32), r_0 = some a7 ∧ job (jup H a1 (jO 3 (jset fs2 16 (jI si_1)))) a7 3 fs8 ∧ jn fs8 16 = some (jI x9) ∧
  (x9 = 0 →
    ∃ (a10 : Nat) (fs11 : List JVal) (v12 : JVal), r_0 = some a10 ∧ (jup H a1 (jO 3 (jset fs2 16 (jI si_1)))).1 a10 = some (true, jO 3 fs11) ∧ jn fs11 13 = some v12 ∧
    Rt (.inl none) (jup (jup H a1 (jO 3 (jset fs2 16 (jI si_1)))) a10 (jO 3 (jset fs11 13 (jI (x6 + (1 : Int32))))))) ∧
  (¬ x9 = 0 →
    ∃ (a13 : Nat) (fs14 : List JVal) (v15 : JVal), r_0 = some a13 ∧ (jup H a1 (jO 3 (jset fs2 16 (jI si_1)))).1 a13 = some (true, jO 3 fs14) ∧ jn fs14 13 = some v15 ∧
    Rt (.inl none) (jup (jup H a1 (jO 3 (jset fs2 16 (jI si_1)))) a13 (jO 3 (jset fs14 13 (jI (x6 + (0 : Int32)))))))) :
  jwp (jprog G) 297 Rt 22 [some (jR r_0), q_1] [jI si_1, jR sr_0] H :=
  junf_wp (jprog_nf G) (stop := jmem [22]) (pX3_mark G) 4000 _ _ _ _ h
/-- UnheardBellsModel behind(II)I @0 -/
theorem gX3_behind_0 (G : JG) {Rt : JRt} (this : Option Nat) (i_1 : Int32) (i_2 : Int32) {H : JHp} (h :
  ∃ (a1 : Nat) (fs2 : List JVal), this = some a1 ∧ job H a1 3 fs2 ∧ /- X3_mark -/ ∃ H3 : JHp, jok (jprog G) 297 [jR this, jI i_1] H (.inl none) H3 ∧
  ∃ (a4 : Nat) (fs5 : List JVal) (x6 : Int32), this = some a4 ∧ job H3 a4 3 fs5 ∧ jn fs5 16 = some (jI x6) ∧
  (x6 = 0 →
    ∃ (a7 : Nat) (fs8 : List JVal), this = some a7 ∧ job H3 a7 3 fs8 ∧ /- X3_digits -/ ∃ (x10 : Int32) (H9 : JHp), jok (jprog G) 296 [jR this, jI i_2] H3 (.inl (some (jI x10))) H9 ∧
    Rt (.inl (some (jI x10))) H9) ∧
  (¬ x6 = 0 →
    Rt (.inl (some (jI 0))) H3)) :
  jwp (jprog G) 298 Rt 0 [some (jR this), some (jI i_1), some (jI i_2)] [] H :=
  junf_wp (jprog_nf G) (stop := jmem []) (pX3_behind G) 4000 _ _ _ _ h
/-- UnheardBellsModel plus()I @0 -/
theorem gX3_plus_0 (G : JG) {Rt : JRt} (this : Option Nat) {H : JHp} (h :
  ∃ (a1 : Nat) (fs2 : List JVal) (x3 : Int32), this = some a1 ∧ job H a1 3 fs2 ∧ jn fs2 16 = some (jI x3) ∧
  (x3 = 0 →
    ∃ (a4 : Nat) (fs5 : List JVal), this = some a4 ∧ job H a4 3 fs5 ∧ /- X3_sign -/ ∃ (x7 : Int32) (H6 : JHp), jok (jprog G) 294 [jR this] H (.inl (some (jI x7))) H6 ∧
    (¬ x7 = (43 : Int32) →
      jwp (jprog G) 299 Rt 23 [some (jR this), none] [jI 0] H6) ∧
    (¬ ¬ x7 = (43 : Int32) →
      jwp (jprog G) 299 Rt 23 [some (jR this), none] [jI 1] H6)) ∧
  (¬ x3 = 0 →
    Rt (.inl (some (jI 0))) H)) :
  jwp (jprog G) 299 Rt 0 [some (jR this), none] [] H :=
  junf_wp (jprog_nf G) (stop := jmem [23]) (pX3_plus G) 4000 _ _ _ _ h
/-- UnheardBellsModel plus()I @23 -/
theorem gX3_plus_23 (G : JG) {Rt : JRt} (r_0 : Option Nat) (q_1 : Option JVal) (si_0 : Int32) {H : JHp} (h :
  (si_0 = 0 →
    ∃ (a1 : Nat) (fs2 : List JVal), r_0 = some a1 ∧ job H a1 3 fs2 ∧ /- X3_mark -/ ∃ H3 : JHp, jok (jprog G) 297 [jR r_0, jI 45] H (.inl none) H3 ∧
    (si_0 = 0 →
      Rt (.inl (some (jI 0))) H3) ∧
    (¬ si_0 = 0 →
      Rt (.inl (some (jI 1))) H3)) ∧
  (¬ si_0 = 0 →
    ∃ (a4 : Nat) (fs5 : List JVal), r_0 = some a4 ∧ job H a4 3 fs5 ∧ /- X3_mark -/ ∃ H6 : JHp, jok (jprog G) 297 [jR r_0, jI 43] H (.inl none) H6 ∧
    (si_0 = 0 →
      Rt (.inl (some (jI 0))) H6) ∧
    (¬ si_0 = 0 →
      Rt (.inl (some (jI 1))) H6))) :
  jwp (jprog G) 299 Rt 23 [some (jR r_0), q_1] [jI si_0] H :=
  junf_wp (jprog_nf G) (stop := jmem [23]) (pX3_plus G) 4000 _ _ _ _ h
/-- UnheardBellsModel fail(I)I @0 -/
theorem gX3_fail_0 (G : JG) {Rt : JRt} (this : Option Nat) (i_1 : Int32) {H : JHp} (h :
  ∃ (a1 : Nat) (fs2 : List JVal) (v3 : JVal), this = some a1 ∧ H.1 a1 = some (true, jO 3 fs2) ∧ jn fs2 0 = some v3 ∧
  Rt (.inl (some (jI i_1))) (jup H a1 (jO 3 (jset fs2 0 (jI i_1))))) :
  jwp (jprog G) 300 Rt 0 [some (jR this), some (jI i_1)] [] H :=
  junf_wp (jprog_nf G) (stop := jmem []) (pX3_fail G) 4000 _ _ _ _ h
/-- UnheardBellsModel isParish(I)Z @0 -/
theorem gX3_isParish_0 (G : JG) {Rt : JRt} (i_0 : Int32) {H : JHp} (h :
  /- X3_isIn -/ ∃ (x2 : Int32) (H1 : JHp), jok (jprog G) 178 [jI i_0, jI 0, jI 3] H (.inl (some (jI x2))) H1 ∧
  jbool x2 ∧ Rt (.inl (some (jI x2))) H1) :
  jwp (jprog G) 301 Rt 0 [some (jI i_0)] [] H :=
  junf_wp (jprog_nf G) (stop := jmem []) (pX3_isParish G) 4000 _ _ _ _ h
/-- UnheardBellsModel refuses(II)I @0 -/
theorem gX3_refuses_0 (G : JG) {Rt : JRt} (this : Option Nat) (i_1 : Int32) (i_2 : Int32) {H : JHp} (h :
  ∃ (a1 : Nat) (fs2 : List JVal) (v3 : JVal), this = some a1 ∧ H.1 a1 = some (true, jO 3 fs2) ∧ jn fs2 2 = some v3 ∧
  ∃ (a4 : Nat) (fs5 : List JVal) (v6 : JVal), this = some a4 ∧ (jup H a1 (jO 3 (jset fs2 2 (jI i_1)))).1 a4 = some (true, jO 3 fs5) ∧ jn fs5 3 = some v6 ∧
  ∃ (a7 : Nat) (fs8 : List JVal), this = some a7 ∧ job (jup (jup H a1 (jO 3 (jset fs2 2 (jI i_1)))) a4 (jO 3 (jset fs5 3 (jI i_2)))) a7 3 fs8 ∧ /- X3_fail -/ ∃ (x10 : Int32) (H9 : JHp), jok (jprog G) 300 [jR this, jI (-1014)] (jup (jup H a1 (jO 3 (jset fs2 2 (jI i_1)))) a4 (jO 3 (jset fs5 3 (jI i_2)))) (.inl (some (jI x10))) H9 ∧
  Rt (.inl (some (jI x10))) H9) :
  jwp (jprog G) 302 Rt 0 [some (jR this), some (jI i_1), some (jI i_2)] [] H :=
  junf_wp (jprog_nf G) (stop := jmem []) (pX3_refuses G) 4000 _ _ _ _ h
/-- UnheardBellsModel sets(II)I @0 -/
theorem gX3_sets_0 (G : JG) {Rt : JRt} (this : Option Nat) (i_1 : Int32) (i_2 : Int32) {H : JHp} (h :
  ∃ (a1 : Nat) (fs2 : List JVal) (r3 : Option Nat), this = some a1 ∧ job H a1 3 fs2 ∧ jn fs2 5 = some (jR r3) ∧
  ∃ (a4 n5 : Nat) (f6 : Nat → Int32), r3 = some a4 ∧ jar H a4 0 (aI n5 f6) ∧ vp_in i_1 n5 ∧
  (¬ (f6 (i_1).toNatClampNeg) = i_2 →
    ∃ (a7 : Nat) (fs8 : List JVal) (r9 : Option Nat), this = some a7 ∧ job H a7 3 fs8 ∧ jn fs8 5 = some (jR r9) ∧
    ∃ (a10 n11 : Nat) (f12 : Nat → Int32), r9 = some a10 ∧ H.1 a10 = some (true, jA 0 (aI n11 f12)) ∧ vp_in i_1 n11 ∧ 
    Rt (.inl (some (jI (f6 (i_1).toNatClampNeg)))) (jup H a10 (jA 0 (aI n11 (upd f12 (i_1).toNatClampNeg i_2))))) ∧
  (¬ ¬ (f6 (i_1).toNatClampNeg) = i_2 →
    ∃ (a13 : Nat) (fs14 : List JVal), this = some a13 ∧ job H a13 3 fs14 ∧ /- X3_refuses -/ ∃ (x16 : Int32) (H15 : JHp), jok (jprog G) 302 [jR this, jI 4, jI i_2] H (.inl (some (jI x16))) H15 ∧
    Rt (.inl (some (jI x16))) H15)) :
  jwp (jprog G) 303 Rt 0 [some (jR this), some (jI i_1), some (jI i_2), none] [] H :=
  junf_wp (jprog_nf G) (stop := jmem []) (pX3_sets G) 4000 _ _ _ _ h
/-- UnheardBellsModel moves(II)I @0 -/
theorem gX3_moves_0 (G : JG) {Rt : JRt} (this : Option Nat) (i_1 : Int32) (i_2 : Int32) {H : JHp} (h :
  ∃ (a1 : Nat) (fs2 : List JVal), this = some a1 ∧ job H a1 3 fs2 ∧ /- X3_isRope -/ ∃ (x4 : Int32) (H3 : JHp), jok (jprog G) 223 [jR this, jI i_1] H (.inl (some (jI x4))) H3 ∧
  (¬ x4 = 0 →
    /- X3_isParish -/ ∃ (x6 : Int32) (H5 : JHp), jok (jprog G) 301 [jI i_2] H3 (.inl (some (jI x6))) H5 ∧
    (x6 = 0 →
      ∃ (a7 : Nat) (fs8 : List JVal), this = some a7 ∧ job H5 a7 3 fs8 ∧ /- X3_fail -/ ∃ (x10 : Int32) (H9 : JHp), jok (jprog G) 300 [jR this, jI (-1012)] H5 (.inl (some (jI x10))) H9 ∧
      Rt (.inl (some (jI x10))) H9) ∧
    (¬ x6 = 0 →
      /- X3_at -/ ∃ (x12 : Int32) (H11 : JHp), jok (jprog G) 121 [jI i_1, jI 0] H5 (.inl (some (jI x12))) H11 ∧
      ∃ (a13 : Nat) (fs14 : List JVal), this = some a13 ∧ job H11 a13 3 fs14 ∧ /- X3_sets -/ ∃ (x16 : Int32) (H15 : JHp), jok (jprog G) 303 [jR this, jI x12, jI i_2] H11 (.inl (some (jI x16))) H15 ∧
      Rt (.inl (some (jI x16))) H15)) ∧
  (¬ ¬ x4 = 0 →
    ∃ (a17 : Nat) (fs18 : List JVal), this = some a17 ∧ job H3 a17 3 fs18 ∧ /- X3_fail -/ ∃ (x20 : Int32) (H19 : JHp), jok (jprog G) 300 [jR this, jI (-1011)] H3 (.inl (some (jI x20))) H19 ∧
    Rt (.inl (some (jI x20))) H19)) :
  jwp (jprog G) 304 Rt 0 [some (jR this), some (jI i_1), some (jI i_2)] [] H :=
  junf_wp (jprog_nf G) (stop := jmem []) (pX3_moves G) 4000 _ _ _ _ h
/-- UnheardBellsModel switches(II)I @0 -/
theorem gX3_switches_0 (G : JG) {Rt : JRt} (this : Option Nat) (i_1 : Int32) (i_2 : Int32) {H : JHp} (h :
  ∃ (a1 : Nat) (fs2 : List JVal), this = some a1 ∧ job H a1 3 fs2 ∧ /- X3_isRope -/ ∃ (x4 : Int32) (H3 : JHp), jok (jprog G) 223 [jR this, jI i_1] H (.inl (some (jI x4))) H3 ∧
  (¬ x4 = 0 →
    /- X3_isIn -/ ∃ (x6 : Int32) (H5 : JHp), jok (jprog G) 178 [jI i_2, jI 0, jI 1] H3 (.inl (some (jI x6))) H5 ∧
    (¬ x6 = 0 →
      /- X3_at -/ ∃ (x8 : Int32) (H7 : JHp), jok (jprog G) 121 [jI i_1, jI 1] H5 (.inl (some (jI x8))) H7 ∧
      ∃ (a9 : Nat) (fs10 : List JVal), this = some a9 ∧ job H7 a9 3 fs10 ∧ /- X3_sets -/ ∃ (x12 : Int32) (H11 : JHp), jok (jprog G) 303 [jR this, jI x8, jI i_2] H7 (.inl (some (jI x12))) H11 ∧
      jwp (jprog G) 305 Rt 50 [some (jR this), some (jI i_1), some (jI i_2), some (jI x12), some (jI 0), some (jI 0)] [] H11) ∧
    (¬ ¬ x6 = 0 →
      ∃ (a13 : Nat) (fs14 : List JVal), this = some a13 ∧ job H5 a13 3 fs14 ∧ /- X3_fail -/ ∃ (x16 : Int32) (H15 : JHp), jok (jprog G) 300 [jR this, jI (-1012)] H5 (.inl (some (jI x16))) H15 ∧
      Rt (.inl (some (jI x16))) H15)) ∧
  (¬ ¬ x4 = 0 →
    ∃ (a17 : Nat) (fs18 : List JVal), this = some a17 ∧ job H3 a17 3 fs18 ∧ /- X3_fail -/ ∃ (x20 : Int32) (H19 : JHp), jok (jprog G) 300 [jR this, jI (-1011)] H3 (.inl (some (jI x20))) H19 ∧
    Rt (.inl (some (jI x20))) H19)) :
  jwp (jprog G) 305 Rt 0 [some (jR this), some (jI i_1), some (jI i_2), none, none, none] [] H :=
  junf_wp (jprog_nf G) (stop := jmem [50]) (pX3_switches G) 4000 _ _ _ _ h
/-- UnheardBellsModel switches(II)I @50 -/
theorem gX3_switches_50 (G : JG) {Rt : JRt} (r_0 : Option Nat) (q_1 : Option JVal) (q_2 : Option JVal) (q_3 : Option JVal) (i_4 : Int32) (i_5 : Int32) {H : JHp} (h :
  ∃ (a1 : Nat) (fs2 : List JVal) (r3 : Option Nat), r_0 = some a1 ∧ job H a1 3 fs2 ∧ jn fs2 5 = some (jR r3) ∧
  ∃ (a4 n5 : Nat) (f6 : Nat → Int32), r3 = some a4 ∧ jar H a4 0 (aI n5 f6) ∧ vp_in (0 : Int32) n5 ∧
  ((f6 ((0 : Int32)).toNatClampNeg) ≤ i_5 →
    Rt (.inl (some (jI i_4))) H) ∧
  (¬ (f6 ((0 : Int32)).toNatClampNeg) ≤ i_5 →
    ∃ (a7 : Nat) (fs8 : List JVal) (r9 : Option Nat), r_0 = some a7 ∧ job H a7 3 fs8 ∧ jn fs8 5 = some (jR r9) ∧
    /- X3_at -/ ∃ (x11 : Int32) (H10 : JHp), jok (jprog G) 121 [jI i_5, jI 1] H (.inl (some (jI x11))) H10 ∧
    ∃ (a12 n13 : Nat) (f14 : Nat → Int32), r9 = some a12 ∧ jar H10 a12 0 (aI n13 f14) ∧ vp_in x11 n13 ∧
    jwp (jprog G) 305 Rt 50 [some (jR r_0), q_1, q_2, (jclr q_3), some (jI (i_4 + (f14 (x11).toNatClampNeg))), some (jI (i_5 + 1))] [] H10)) :
  jwp (jprog G) 305 Rt 50 [some (jR r_0), q_1, q_2, q_3, some (jI i_4), some (jI i_5)] [] H :=
  junf_wp (jprog_nf G) (stop := jmem [50]) (pX3_switches G) 4000 _ _ _ _ h
/-- UnheardBellsModel comes(I)I @0 -/
theorem gX3_comes_0 (G : JG) {Rt : JRt} (this : Option Nat) (i_1 : Int32) {H : JHp} (h :
  /- X3_isParish -/ ∃ (x2 : Int32) (H1 : JHp), jok (jprog G) 301 [jI i_1] H (.inl (some (jI x2))) H1 ∧
  (¬ x2 = 0 →
    ∃ (a3 : Nat) (fs4 : List JVal) (r5 : Option Nat), this = some a3 ∧ job H1 a3 3 fs4 ∧ jn fs4 5 = some (jR r5) ∧
    ∃ (a6 n7 : Nat) (f8 : Nat → Int32), r5 = some a6 ∧ jar H1 a6 0 (aI n7 f8) ∧ vp_in (0 : Int32) n7 ∧
    (¬ (f8 ((0 : Int32)).toNatClampNeg) = (12 : Int32) →
      ∃ (a9 : Nat) (fs10 : List JVal) (r11 : Option Nat), this = some a9 ∧ job H1 a9 3 fs10 ∧ jn fs10 5 = some (jR r11) ∧
      /- X3_at -/ ∃ (x13 : Int32) (H12 : JHp), jok (jprog G) 121 [jI (f8 ((0 : Int32)).toNatClampNeg), jI 0] H1 (.inl (some (jI x13))) H12 ∧
      ∃ (a14 n15 : Nat) (f16 : Nat → Int32), r11 = some a14 ∧ H12.1 a14 = some (true, jA 0 (aI n15 f16)) ∧ vp_in x13 n15 ∧ 
      ∃ (a17 : Nat) (fs18 : List JVal) (r19 : Option Nat), this = some a17 ∧ job (jup H12 a14 (jA 0 (aI n15 (upd f16 (x13).toNatClampNeg i_1)))) a17 3 fs18 ∧ jn fs18 5 = some (jR r19) ∧
      /- X3_at -/ ∃ (x21 : Int32) (H20 : JHp), jok (jprog G) 121 [jI (f8 ((0 : Int32)).toNatClampNeg), jI 1] (jup H12 a14 (jA 0 (aI n15 (upd f16 (x13).toNatClampNeg i_1)))) (.inl (some (jI x21))) H20 ∧
      ∃ (a22 n23 : Nat) (f24 : Nat → Int32), r19 = some a22 ∧ H20.1 a22 = some (true, jA 0 (aI n23 f24)) ∧ vp_in x21 n23 ∧ 
      ∃ (a25 : Nat) (fs26 : List JVal) (r27 : Option Nat), this = some a25 ∧ job (jup H20 a22 (jA 0 (aI n23 (upd f24 (x21).toNatClampNeg (1 : Int32))))) a25 3 fs26 ∧ jn fs26 5 = some (jR r27) ∧
      ∃ (a28 n29 : Nat) (f30 : Nat → Int32), r27 = some a28 ∧ jar (jup H20 a22 (jA 0 (aI n23 (upd f24 (x21).toNatClampNeg (1 : Int32))))) a28 0 (aI n29 f30) ∧ vp_in (0 : Int32) n29 ∧
      ∃ (a31 n32 : Nat) (f33 : Nat → Int32), r27 = some a31 ∧ (jup H20 a22 (jA 0 (aI n23 (upd f24 (x21).toNatClampNeg (1 : Int32))))).1 a31 = some (true, jA 0 (aI n32 f33)) ∧ vp_in (0 : Int32) n32 ∧ 
      Rt (.inl (some (jI (f8 ((0 : Int32)).toNatClampNeg)))) (jup (jup H20 a22 (jA 0 (aI n23 (upd f24 (x21).toNatClampNeg (1 : Int32))))) a31 (jA 0 (aI n32 (upd f33 ((0 : Int32)).toNatClampNeg ((f30 ((0 : Int32)).toNatClampNeg) + (1 : Int32))))))) ∧
    (¬ ¬ (f8 ((0 : Int32)).toNatClampNeg) = (12 : Int32) →
      ∃ (a34 : Nat) (fs35 : List JVal), this = some a34 ∧ job H1 a34 3 fs35 ∧ /- X3_refuses -/ ∃ (x37 : Int32) (H36 : JHp), jok (jprog G) 302 [jR this, jI 1, jI 12] H1 (.inl (some (jI x37))) H36 ∧
      Rt (.inl (some (jI x37))) H36)) ∧
  (¬ ¬ x2 = 0 →
    ∃ (a38 : Nat) (fs39 : List JVal), this = some a38 ∧ job H1 a38 3 fs39 ∧ /- X3_fail -/ ∃ (x41 : Int32) (H40 : JHp), jok (jprog G) 300 [jR this, jI (-1012)] H1 (.inl (some (jI x41))) H40 ∧
    Rt (.inl (some (jI x41))) H40)) :
  jwp (jprog G) 306 Rt 0 [some (jR this), some (jI i_1), none] [] H :=
  junf_wp (jprog_nf G) (stop := jmem []) (pX3_comes G) 4000 _ _ _ _ h
/-- UnheardBellsModel isAhead(IIII)Z @0 -/
theorem gX3_isAhead_0 (G : JG) {Rt : JRt} (this : Option Nat) (i_1 : Int32) (i_2 : Int32) (i_3 : Int32) (i_4 : Int32) {H : JHp} (h :
  ∃ (a1 : Nat) (fs2 : List JVal), this = some a1 ∧ job H a1 3 fs2 ∧ /- X3_pulled -/ ∃ (x4 : Int32) (H3 : JHp), jok (jprog G) 224 [jR this, jI i_1, jI 1] H (.inl (some (jI x4))) H3 ∧
  ((x4 - i_3) = 0 →
    ∃ (a5 : Nat) (fs6 : List JVal), this = some a5 ∧ job H3 a5 3 fs6 ∧ /- X3_pulled -/ ∃ (x8 : Int32) (H7 : JHp), jok (jprog G) 224 [jR this, jI i_1, jI 2] H3 (.inl (some (jI x8))) H7 ∧
    jwp (jprog G) 307 Rt 29 [some (jR this), some (jI i_1), some (jI i_2), some (jI i_3), some (jI i_4), some (jI (x4 - i_3))] [jI (i_4 - x8)] H7) ∧
  (¬ (x4 - i_3) = 0 →
    jwp (jprog G) 307 Rt 29 [some (jR this), some (jI i_1), some (jI i_2), some (jI i_3), some (jI i_4), some (jI (x4 - i_3))] [jI (x4 - i_3)] H3)) :
  jwp (jprog G) 307 Rt 0 [some (jR this), some (jI i_1), some (jI i_2), some (jI i_3), some (jI i_4), none] [] H :=
  junf_wp (jprog_nf G) (stop := jmem [29]) (pX3_isAhead G) 4000 _ _ _ _ h
/-- UnheardBellsModel isAhead(IIII)Z @29 -/
theorem gX3_isAhead_29 (G : JG) {Rt : JRt} (r_0 : Option Nat) (i_1 : Int32) (i_2 : Int32) (q_3 : Option JVal) (q_4 : Option JVal) (q_5 : Option JVal) (si_0 : Int32) {H : JHp} (h :
  (si_0 = 0 →
    ∃ (a1 : Nat) (fs2 : List JVal), r_0 = some a1 ∧ job H a1 3 fs2 ∧ /- X3_pulled -/ ∃ (x4 : Int32) (H3 : JHp), jok (jprog G) 224 [jR r_0, jI i_1, jI 0] H (.inl (some (jI x4))) H3 ∧
    (0 < (x4 - i_2) →
      jbool (0 : Int32) ∧ Rt (.inl (some (jI 0))) H3) ∧
    (¬ 0 < (x4 - i_2) →
      jbool (1 : Int32) ∧ Rt (.inl (some (jI 1))) H3)) ∧
  (¬ si_0 = 0 →
    (0 < si_0 →
      jbool (0 : Int32) ∧ Rt (.inl (some (jI 0))) H) ∧
    (¬ 0 < si_0 →
      jbool (1 : Int32) ∧ Rt (.inl (some (jI 1))) H))) :
  jwp (jprog G) 307 Rt 29 [some (jR r_0), some (jI i_1), some (jI i_2), q_3, q_4, q_5] [jI si_0] H :=
  junf_wp (jprog_nf G) (stop := jmem [29]) (pX3_isAhead G) 4000 _ _ _ _ h
/-- UnheardBellsModel waits(III)I @0 -/
theorem gX3_waits_0 (G : JG) {Rt : JRt} (this : Option Nat) (i_1 : Int32) (i_2 : Int32) (i_3 : Int32) {H : JHp} (h :
  ∃ (a1 : Nat) (fs2 : List JVal), this = some a1 ∧ job H a1 3 fs2 ∧ /- X3_isRope -/ ∃ (x4 : Int32) (H3 : JHp), jok (jprog G) 223 [jR this, jI i_1] H (.inl (some (jI x4))) H3 ∧
  (¬ x4 = 0 →
    /- X3_isIn -/ ∃ (x6 : Int32) (H5 : JHp), jok (jprog G) 178 [jI i_2, jI 0, jI 23] H3 (.inl (some (jI x6))) H5 ∧
    (x6 = 0 →
      ∃ (a7 : Nat) (fs8 : List JVal), this = some a7 ∧ job H5 a7 3 fs8 ∧ /- X3_fail -/ ∃ (x10 : Int32) (H9 : JHp), jok (jprog G) 300 [jR this, jI (-1012)] H5 (.inl (some (jI x10))) H9 ∧
      Rt (.inl (some (jI x10))) H9) ∧
    (¬ x6 = 0 →
      /- X3_isIn -/ ∃ (x12 : Int32) (H11 : JHp), jok (jprog G) 178 [jI i_3, jI 1, jI 9] H5 (.inl (some (jI x12))) H11 ∧
      (¬ x12 = 0 →
        ∃ (a13 : Nat) (fs14 : List JVal) (r15 : Option Nat), this = some a13 ∧ job H11 a13 3 fs14 ∧ jn fs14 5 = some (jR r15) ∧
        ∃ (a16 n17 : Nat) (f18 : Nat → Int32), r15 = some a16 ∧ jar H11 a16 0 (aI n17 f18) ∧ vp_in (2 : Int32) n17 ∧
        ((f18 ((2 : Int32)).toNatClampNeg) ≤ i_2 →
          ∃ (a19 : Nat) (fs20 : List JVal) (r21 : Option Nat), this = some a19 ∧ job H11 a19 3 fs20 ∧ jn fs20 5 = some (jR r21) ∧
          ∃ (a22 n23 : Nat) (f24 : Nat → Int32), r21 = some a22 ∧ jar H11 a22 0 (aI n23 f24) ∧ vp_in (1 : Int32) n23 ∧
          (¬ (f24 ((1 : Int32)).toNatClampNeg) = (16 : Int32) →
            jwp (jprog G) 308 Rt 89 [some (jR this), some (jI i_1), some (jI i_2), some (jI i_3), some (jI (f24 ((1 : Int32)).toNatClampNeg)), none] [] H11) ∧
          (¬ ¬ (f24 ((1 : Int32)).toNatClampNeg) = (16 : Int32) →
            ∃ (a25 : Nat) (fs26 : List JVal), this = some a25 ∧ job H11 a25 3 fs26 ∧ /- X3_refuses -/ ∃ (x28 : Int32) (H27 : JHp), jok (jprog G) 302 [jR this, jI 1, jI 16] H11 (.inl (some (jI x28))) H27 ∧
            Rt (.inl (some (jI x28))) H27)) ∧
        (¬ (f18 ((2 : Int32)).toNatClampNeg) ≤ i_2 →
          ∃ (a29 : Nat) (fs30 : List JVal) (r31 : Option Nat), this = some a29 ∧ job H11 a29 3 fs30 ∧ jn fs30 5 = some (jR r31) ∧
          ∃ (a32 n33 : Nat) (f34 : Nat → Int32), r31 = some a32 ∧ jar H11 a32 0 (aI n33 f34) ∧ vp_in (2 : Int32) n33 ∧
          ∃ (a35 : Nat) (fs36 : List JVal), this = some a35 ∧ job H11 a35 3 fs36 ∧ /- X3_refuses -/ ∃ (x38 : Int32) (H37 : JHp), jok (jprog G) 302 [jR this, jI 2, jI (f34 ((2 : Int32)).toNatClampNeg)] H11 (.inl (some (jI x38))) H37 ∧
          Rt (.inl (some (jI x38))) H37)) ∧
      (¬ ¬ x12 = 0 →
        ∃ (a39 : Nat) (fs40 : List JVal), this = some a39 ∧ job H11 a39 3 fs40 ∧ /- X3_fail -/ ∃ (x42 : Int32) (H41 : JHp), jok (jprog G) 300 [jR this, jI (-1012)] H11 (.inl (some (jI x42))) H41 ∧
        Rt (.inl (some (jI x42))) H41))) ∧
  (¬ ¬ x4 = 0 →
    ∃ (a43 : Nat) (fs44 : List JVal), this = some a43 ∧ job H3 a43 3 fs44 ∧ /- X3_fail -/ ∃ (x46 : Int32) (H45 : JHp), jok (jprog G) 300 [jR this, jI (-1011)] H3 (.inl (some (jI x46))) H45 ∧
    Rt (.inl (some (jI x46))) H45)) :
  jwp (jprog G) 308 Rt 0 [some (jR this), some (jI i_1), some (jI i_2), some (jI i_3), none, none] [] H :=
  junf_wp (jprog_nf G) (stop := jmem [89, 111, 161]) (pX3_waits G) 4000 _ _ _ _ h
/-- UnheardBellsModel waits(III)I @89 -/
theorem gX3_waits_89 (G : JG) {Rt : JRt} (r_0 : Option Nat) (i_1 : Int32) (i_2 : Int32) (i_3 : Int32) (i_4 : Int32) (q_5 : Option JVal) {H : JHp} (h :
  (i_4 ≤ 0 →
    jwp (jprog G) 308 Rt 161 [some (jR r_0), some (jI i_1), some (jI i_2), some (jI i_3), some (jI i_4), q_5] [] H) ∧
  (¬ i_4 ≤ 0 →
    ∃ (a1 : Nat) (fs2 : List JVal), r_0 = some a1 ∧ job H a1 3 fs2 ∧ /- X3_isAhead -/ ∃ (x4 : Int32) (H3 : JHp), jok (jprog G) 307 [jR r_0, jI (i_4 - (1 : Int32)), jI i_1, jI i_2, jI i_3] H (.inl (some (jI x4))) H3 ∧
    (¬ x4 = 0 →
      jwp (jprog G) 308 Rt 161 [some (jR r_0), some (jI i_1), some (jI i_2), some (jI i_3), some (jI i_4), q_5] [] H3) ∧
    (¬ ¬ x4 = 0 →
      jwp (jprog G) 308 Rt 111 [some (jR r_0), some (jI i_1), some (jI i_2), some (jI i_3), some (jI i_4), some (jI 0)] [] H3))) :
  jwp (jprog G) 308 Rt 89 [some (jR r_0), some (jI i_1), some (jI i_2), some (jI i_3), some (jI i_4), q_5] [] H :=
  junf_wp (jprog_nf G) (stop := jmem [89, 111, 161]) (pX3_waits G) 4000 _ _ _ _ h
/-- UnheardBellsModel waits(III)I @111 -/
theorem gX3_waits_111 (G : JG) {Rt : JRt} (r_0 : Option Nat) (i_1 : Int32) (i_2 : Int32) (i_3 : Int32) (i_4 : Int32) (i_5 : Int32) {H : JHp} (h :
  ((3 : Int32) ≤ i_5 →
    jwp (jprog G) 308 Rt 89 [some (jR r_0), some (jI i_1), some (jI i_2), some (jI i_3), some (jI (i_4 + (-1))), some (jI i_5)] [] H) ∧
  (¬ (3 : Int32) ≤ i_5 →
    ∃ (a1 : Nat) (fs2 : List JVal) (r3 : Option Nat), r_0 = some a1 ∧ job H a1 3 fs2 ∧ jn fs2 5 = some (jR r3) ∧
    ∃ (a4 : Nat) (fs5 : List JVal) (r6 : Option Nat), r_0 = some a4 ∧ job H a4 3 fs5 ∧ jn fs5 5 = some (jR r6) ∧
    ∃ (a7 n8 : Nat) (f9 : Nat → Int32), r6 = some a7 ∧ jar H a7 0 (aI n8 f9) ∧ vp_in ((((83 : Int32) + ((3 : Int32) * i_4)) - (3 : Int32)) + i_5) n8 ∧
    ∃ (a10 n11 : Nat) (f12 : Nat → Int32), r3 = some a10 ∧ H.1 a10 = some (true, jA 0 (aI n11 f12)) ∧ vp_in (((83 : Int32) + ((3 : Int32) * i_4)) + i_5) n11 ∧ 
    jwp (jprog G) 308 Rt 111 [some (jR r_0), some (jI i_1), some (jI i_2), some (jI i_3), some (jI i_4), some (jI (i_5 + 1))] [] (jup H a10 (jA 0 (aI n11 (upd f12 ((((83 : Int32) + ((3 : Int32) * i_4)) + i_5)).toNatClampNeg (f9 (((((83 : Int32) + ((3 : Int32) * i_4)) - (3 : Int32)) + i_5)).toNatClampNeg))))))) :
  jwp (jprog G) 308 Rt 111 [some (jR r_0), some (jI i_1), some (jI i_2), some (jI i_3), some (jI i_4), some (jI i_5)] [] H :=
  junf_wp (jprog_nf G) (stop := jmem [89, 111, 161]) (pX3_waits G) 4000 _ _ _ _ h
/-- UnheardBellsModel waits(III)I @161 -/
theorem gX3_waits_161 (G : JG) {Rt : JRt} (r_0 : Option Nat) (i_1 : Int32) (i_2 : Int32) (i_3 : Int32) (i_4 : Int32) (q_5 : Option JVal) {H : JHp} (h :
  ∃ (a1 : Nat) (fs2 : List JVal) (r3 : Option Nat), r_0 = some a1 ∧ job H a1 3 fs2 ∧ jn fs2 5 = some (jR r3) ∧
  ∃ (a4 n5 : Nat) (f6 : Nat → Int32), r3 = some a4 ∧ H.1 a4 = some (true, jA 0 (aI n5 f6)) ∧ vp_in ((83 : Int32) + ((3 : Int32) * i_4)) n5 ∧ 
  ∃ (a7 : Nat) (fs8 : List JVal) (r9 : Option Nat), r_0 = some a7 ∧ job (jup H a4 (jA 0 (aI n5 (upd f6 (((83 : Int32) + ((3 : Int32) * i_4))).toNatClampNeg i_1)))) a7 3 fs8 ∧ jn fs8 5 = some (jR r9) ∧
  ∃ (a10 n11 : Nat) (f12 : Nat → Int32), r9 = some a10 ∧ (jup H a4 (jA 0 (aI n5 (upd f6 (((83 : Int32) + ((3 : Int32) * i_4))).toNatClampNeg i_1)))).1 a10 = some (true, jA 0 (aI n11 f12)) ∧ vp_in (((83 : Int32) + ((3 : Int32) * i_4)) + (1 : Int32)) n11 ∧ 
  ∃ (a13 : Nat) (fs14 : List JVal) (r15 : Option Nat), r_0 = some a13 ∧ job (jup (jup H a4 (jA 0 (aI n5 (upd f6 (((83 : Int32) + ((3 : Int32) * i_4))).toNatClampNeg i_1)))) a10 (jA 0 (aI n11 (upd f12 ((((83 : Int32) + ((3 : Int32) * i_4)) + (1 : Int32))).toNatClampNeg i_2)))) a13 3 fs14 ∧ jn fs14 5 = some (jR r15) ∧
  ∃ (a16 n17 : Nat) (f18 : Nat → Int32), r15 = some a16 ∧ (jup (jup H a4 (jA 0 (aI n5 (upd f6 (((83 : Int32) + ((3 : Int32) * i_4))).toNatClampNeg i_1)))) a10 (jA 0 (aI n11 (upd f12 ((((83 : Int32) + ((3 : Int32) * i_4)) + (1 : Int32))).toNatClampNeg i_2)))).1 a16 = some (true, jA 0 (aI n17 f18)) ∧ vp_in (((83 : Int32) + ((3 : Int32) * i_4)) + (2 : Int32)) n17 ∧ 
  ∃ (a19 : Nat) (fs20 : List JVal) (r21 : Option Nat), r_0 = some a19 ∧ job (jup (jup (jup H a4 (jA 0 (aI n5 (upd f6 (((83 : Int32) + ((3 : Int32) * i_4))).toNatClampNeg i_1)))) a10 (jA 0 (aI n11 (upd f12 ((((83 : Int32) + ((3 : Int32) * i_4)) + (1 : Int32))).toNatClampNeg i_2)))) a16 (jA 0 (aI n17 (upd f18 ((((83 : Int32) + ((3 : Int32) * i_4)) + (2 : Int32))).toNatClampNeg i_3)))) a19 3 fs20 ∧ jn fs20 5 = some (jR r21) ∧
  ∃ (a22 n23 : Nat) (f24 : Nat → Int32), r21 = some a22 ∧ jar (jup (jup (jup H a4 (jA 0 (aI n5 (upd f6 (((83 : Int32) + ((3 : Int32) * i_4))).toNatClampNeg i_1)))) a10 (jA 0 (aI n11 (upd f12 ((((83 : Int32) + ((3 : Int32) * i_4)) + (1 : Int32))).toNatClampNeg i_2)))) a16 (jA 0 (aI n17 (upd f18 ((((83 : Int32) + ((3 : Int32) * i_4)) + (2 : Int32))).toNatClampNeg i_3)))) a22 0 (aI n23 f24) ∧ vp_in (1 : Int32) n23 ∧
  ∃ (a25 n26 : Nat) (f27 : Nat → Int32), r21 = some a25 ∧ (jup (jup (jup H a4 (jA 0 (aI n5 (upd f6 (((83 : Int32) + ((3 : Int32) * i_4))).toNatClampNeg i_1)))) a10 (jA 0 (aI n11 (upd f12 ((((83 : Int32) + ((3 : Int32) * i_4)) + (1 : Int32))).toNatClampNeg i_2)))) a16 (jA 0 (aI n17 (upd f18 ((((83 : Int32) + ((3 : Int32) * i_4)) + (2 : Int32))).toNatClampNeg i_3)))).1 a25 = some (true, jA 0 (aI n26 f27)) ∧ vp_in (1 : Int32) n26 ∧ 
  ∃ (a28 : Nat) (fs29 : List JVal) (r30 : Option Nat), r_0 = some a28 ∧ job (jup (jup (jup (jup H a4 (jA 0 (aI n5 (upd f6 (((83 : Int32) + ((3 : Int32) * i_4))).toNatClampNeg i_1)))) a10 (jA 0 (aI n11 (upd f12 ((((83 : Int32) + ((3 : Int32) * i_4)) + (1 : Int32))).toNatClampNeg i_2)))) a16 (jA 0 (aI n17 (upd f18 ((((83 : Int32) + ((3 : Int32) * i_4)) + (2 : Int32))).toNatClampNeg i_3)))) a25 (jA 0 (aI n26 (upd f27 ((1 : Int32)).toNatClampNeg ((f24 ((1 : Int32)).toNatClampNeg) + (1 : Int32)))))) a28 3 fs29 ∧ jn fs29 5 = some (jR r30) ∧
  ∃ (a31 n32 : Nat) (f33 : Nat → Int32), r30 = some a31 ∧ jar (jup (jup (jup (jup H a4 (jA 0 (aI n5 (upd f6 (((83 : Int32) + ((3 : Int32) * i_4))).toNatClampNeg i_1)))) a10 (jA 0 (aI n11 (upd f12 ((((83 : Int32) + ((3 : Int32) * i_4)) + (1 : Int32))).toNatClampNeg i_2)))) a16 (jA 0 (aI n17 (upd f18 ((((83 : Int32) + ((3 : Int32) * i_4)) + (2 : Int32))).toNatClampNeg i_3)))) a25 (jA 0 (aI n26 (upd f27 ((1 : Int32)).toNatClampNeg ((f24 ((1 : Int32)).toNatClampNeg) + (1 : Int32)))))) a31 0 (aI n32 f33) ∧ vp_in (4 : Int32) n32 ∧
  ∃ (a34 n35 : Nat) (f36 : Nat → Int32), r30 = some a34 ∧ (jup (jup (jup (jup H a4 (jA 0 (aI n5 (upd f6 (((83 : Int32) + ((3 : Int32) * i_4))).toNatClampNeg i_1)))) a10 (jA 0 (aI n11 (upd f12 ((((83 : Int32) + ((3 : Int32) * i_4)) + (1 : Int32))).toNatClampNeg i_2)))) a16 (jA 0 (aI n17 (upd f18 ((((83 : Int32) + ((3 : Int32) * i_4)) + (2 : Int32))).toNatClampNeg i_3)))) a25 (jA 0 (aI n26 (upd f27 ((1 : Int32)).toNatClampNeg ((f24 ((1 : Int32)).toNatClampNeg) + (1 : Int32)))))).1 a34 = some (true, jA 0 (aI n35 f36)) ∧ vp_in (4 : Int32) n35 ∧ 
  Rt (.inl (some (jI i_4))) (jup (jup (jup (jup (jup H a4 (jA 0 (aI n5 (upd f6 (((83 : Int32) + ((3 : Int32) * i_4))).toNatClampNeg i_1)))) a10 (jA 0 (aI n11 (upd f12 ((((83 : Int32) + ((3 : Int32) * i_4)) + (1 : Int32))).toNatClampNeg i_2)))) a16 (jA 0 (aI n17 (upd f18 ((((83 : Int32) + ((3 : Int32) * i_4)) + (2 : Int32))).toNatClampNeg i_3)))) a25 (jA 0 (aI n26 (upd f27 ((1 : Int32)).toNatClampNeg ((f24 ((1 : Int32)).toNatClampNeg) + (1 : Int32)))))) a34 (jA 0 (aI n35 (upd f36 ((4 : Int32)).toNatClampNeg ((f33 ((4 : Int32)).toNatClampNeg) + (1 : Int32))))))) :
  jwp (jprog G) 308 Rt 161 [some (jR r_0), some (jI i_1), some (jI i_2), some (jI i_3), some (jI i_4), q_5] [] H :=
  junf_wp (jprog_nf G) (stop := jmem [89, 111, 161]) (pX3_waits G) 4000 _ _ _ _ h
/-- UnheardBellsModel oils(II)I @0 -/
theorem gX3_oils_0 (G : JG) {Rt : JRt} (this : Option Nat) (i_1 : Int32) (i_2 : Int32) {H : JHp} (h :
  ∃ (a1 : Nat) (fs2 : List JVal), this = some a1 ∧ job H a1 3 fs2 ∧ /- X3_isRope -/ ∃ (x4 : Int32) (H3 : JHp), jok (jprog G) 223 [jR this, jI i_1] H (.inl (some (jI x4))) H3 ∧
  (¬ x4 = 0 →
    /- X3_isIn -/ ∃ (x6 : Int32) (H5 : JHp), jok (jprog G) 178 [jI i_2, jI 1, jI 9] H3 (.inl (some (jI x6))) H5 ∧
    (¬ x6 = 0 →
      ∃ (a7 : Nat) (fs8 : List JVal) (r9 : Option Nat), this = some a7 ∧ job H5 a7 3 fs8 ∧ jn fs8 5 = some (jR r9) ∧
      /- X3_at -/ ∃ (x11 : Int32) (H10 : JHp), jok (jprog G) 121 [jI i_1, jI 2] H5 (.inl (some (jI x11))) H10 ∧
      ∃ (a12 n13 : Nat) (f14 : Nat → Int32), r9 = some a12 ∧ jar H10 a12 0 (aI n13 f14) ∧ vp_in x11 n13 ∧
      (i_2 ≤ (f14 (x11).toNatClampNeg) →
        ∃ (a15 : Nat) (fs16 : List JVal) (r17 : Option Nat), this = some a15 ∧ job H10 a15 3 fs16 ∧ jn fs16 5 = some (jR r17) ∧
        /- X3_at -/ ∃ (x19 : Int32) (H18 : JHp), jok (jprog G) 121 [jI i_1, jI 2] H10 (.inl (some (jI x19))) H18 ∧
        ∃ (a20 n21 : Nat) (f22 : Nat → Int32), r17 = some a20 ∧ jar H18 a20 0 (aI n21 f22) ∧ vp_in x19 n21 ∧
        ∃ (a23 n24 : Nat) (f25 : Nat → Int32), r17 = some a23 ∧ H18.1 a23 = some (true, jA 0 (aI n24 f25)) ∧ vp_in x19 n24 ∧ 
        Rt (.inl (some (jI ((f14 (x11).toNatClampNeg) - i_2)))) (jup H18 a23 (jA 0 (aI n24 (upd f25 (x19).toNatClampNeg ((f22 (x19).toNatClampNeg) - i_2)))))) ∧
      (¬ i_2 ≤ (f14 (x11).toNatClampNeg) →
        ∃ (a26 : Nat) (fs27 : List JVal), this = some a26 ∧ job H10 a26 3 fs27 ∧ /- X3_refuses -/ ∃ (x29 : Int32) (H28 : JHp), jok (jprog G) 302 [jR this, jI 5, jI (f14 (x11).toNatClampNeg)] H10 (.inl (some (jI x29))) H28 ∧
        Rt (.inl (some (jI x29))) H28)) ∧
    (¬ ¬ x6 = 0 →
      ∃ (a30 : Nat) (fs31 : List JVal), this = some a30 ∧ job H5 a30 3 fs31 ∧ /- X3_fail -/ ∃ (x33 : Int32) (H32 : JHp), jok (jprog G) 300 [jR this, jI (-1012)] H5 (.inl (some (jI x33))) H32 ∧
      Rt (.inl (some (jI x33))) H32)) ∧
  (¬ ¬ x4 = 0 →
    ∃ (a34 : Nat) (fs35 : List JVal), this = some a34 ∧ job H3 a34 3 fs35 ∧ /- X3_fail -/ ∃ (x37 : Int32) (H36 : JHp), jok (jprog G) 300 [jR this, jI (-1011)] H3 (.inl (some (jI x37))) H36 ∧
    Rt (.inl (some (jI x37))) H36)) :
  jwp (jprog G) 309 Rt 0 [some (jR this), some (jI i_1), some (jI i_2), none] [] H :=
  junf_wp (jprog_nf G) (stop := jmem []) (pX3_oils G) 4000 _ _ _ _ h
/-- UnheardBellsModel goes(I)V @0 -/
theorem gX3_goes_0 (G : JG) {Rt : JRt} (this : Option Nat) (i_1 : Int32) {H : JHp} (h :
  jwp (jprog G) 310 Rt 7 [some (jR this), some (jI i_1), some (jI ((83 : Int32) + ((3 : Int32) * i_1)))] [] H) :
  jwp (jprog G) 310 Rt 0 [some (jR this), some (jI i_1), none] [] H :=
  junf_wp (jprog_nf G) (stop := jmem [7]) (pX3_goes G) 4000 _ _ _ _ h
/-- UnheardBellsModel goes(I)V @7 -/
theorem gX3_goes_7 (G : JG) {Rt : JRt} (r_0 : Option Nat) (q_1 : Option JVal) (i_2 : Int32) {H : JHp} (h :
  ((131 : Int32) ≤ i_2 →
    ∃ (a1 : Nat) (fs2 : List JVal) (r3 : Option Nat), r_0 = some a1 ∧ job H a1 3 fs2 ∧ jn fs2 5 = some (jR r3) ∧
    ∃ (a4 n5 : Nat) (f6 : Nat → Int32), r3 = some a4 ∧ jar H a4 0 (aI n5 f6) ∧ vp_in (1 : Int32) n5 ∧
    ∃ (a7 n8 : Nat) (f9 : Nat → Int32), r3 = some a7 ∧ H.1 a7 = some (true, jA 0 (aI n8 f9)) ∧ vp_in (1 : Int32) n8 ∧ 
    Rt (.inl none) (jup H a7 (jA 0 (aI n8 (upd f9 ((1 : Int32)).toNatClampNeg ((f6 ((1 : Int32)).toNatClampNeg) - (1 : Int32))))))) ∧
  (¬ (131 : Int32) ≤ i_2 →
    ∃ (a10 : Nat) (fs11 : List JVal) (r12 : Option Nat), r_0 = some a10 ∧ job H a10 3 fs11 ∧ jn fs11 5 = some (jR r12) ∧
    ((131 : Int32) ≤ (i_2 + (3 : Int32)) →
      ∃ (a13 n14 : Nat) (f15 : Nat → Int32), r12 = some a13 ∧ H.1 a13 = some (true, jA 0 (aI n14 f15)) ∧ vp_in i_2 n14 ∧ 
      jwp (jprog G) 310 Rt 7 [some (jR r_0), (jclr q_1), some (jI (i_2 + 1))] [] (jup H a13 (jA 0 (aI n14 (upd f15 (i_2).toNatClampNeg (0 : Int32)))))) ∧
    (¬ (131 : Int32) ≤ (i_2 + (3 : Int32)) →
      ∃ (a16 : Nat) (fs17 : List JVal) (r18 : Option Nat), r_0 = some a16 ∧ job H a16 3 fs17 ∧ jn fs17 5 = some (jR r18) ∧
      ∃ (a19 n20 : Nat) (f21 : Nat → Int32), r18 = some a19 ∧ jar H a19 0 (aI n20 f21) ∧ vp_in (i_2 + (3 : Int32)) n20 ∧
      ∃ (a22 n23 : Nat) (f24 : Nat → Int32), r12 = some a22 ∧ H.1 a22 = some (true, jA 0 (aI n23 f24)) ∧ vp_in i_2 n23 ∧ 
      jwp (jprog G) 310 Rt 7 [some (jR r_0), (jclr q_1), some (jI (i_2 + 1))] [] (jup H a22 (jA 0 (aI n23 (upd f24 (i_2).toNatClampNeg (f21 ((i_2 + (3 : Int32))).toNatClampNeg)))))))) :
  jwp (jprog G) 310 Rt 7 [some (jR r_0), q_1, some (jI i_2)] [] H :=
  junf_wp (jprog_nf G) (stop := jmem [7]) (pX3_goes G) 4000 _ _ _ _ h
/-- UnheardBellsModel isHeard(II)Z @0 -/
theorem gX3_isHeard_0 (G : JG) {Rt : JRt} (this : Option Nat) (i_1 : Int32) (i_2 : Int32) {H : JHp} (h :
  ∃ (a1 : Nat) (fs2 : List JVal) (r3 : Option Nat), this = some a1 ∧ job H a1 3 fs2 ∧ jn fs2 5 = some (jR r3) ∧
  /- X3_at -/ ∃ (x5 : Int32) (H4 : JHp), jok (jprog G) 121 [jI i_1, jI 1] H (.inl (some (jI x5))) H4 ∧
  ∃ (a6 n7 : Nat) (f8 : Nat → Int32), r3 = some a6 ∧ jar H4 a6 0 (aI n7 f8) ∧ vp_in x5 n7 ∧
  (¬ (f8 (x5).toNatClampNeg) = (1 : Int32) →
    jbool (0 : Int32) ∧ Rt (.inl (some (jI 0))) H4) ∧
  (¬ ¬ (f8 (x5).toNatClampNeg) = (1 : Int32) →
    ∃ (a9 : Nat) (fs10 : List JVal) (r11 : Option Nat), this = some a9 ∧ job H4 a9 3 fs10 ∧ jn fs10 5 = some (jR r11) ∧
    /- X3_at -/ ∃ (x13 : Int32) (H12 : JHp), jok (jprog G) 121 [jI i_1, jI 2] H4 (.inl (some (jI x13))) H12 ∧
    ∃ (a14 n15 : Nat) (f16 : Nat → Int32), r11 = some a14 ∧ jar H12 a14 0 (aI n15 f16) ∧ vp_in x13 n15 ∧
    (i_2 ≤ (f16 (x13).toNatClampNeg) →
      jbool (0 : Int32) ∧ Rt (.inl (some (jI 0))) H12) ∧
    (¬ i_2 ≤ (f16 (x13).toNatClampNeg) →
      jbool (1 : Int32) ∧ Rt (.inl (some (jI 1))) H12))) :
  jwp (jprog G) 311 Rt 0 [some (jR this), some (jI i_1), some (jI i_2)] [] H :=
  junf_wp (jprog_nf G) (stop := jmem []) (pX3_isHeard G) 4000 _ _ _ _ h
/-- UnheardBellsModel answers(III)V @0 -/
theorem gX3_answers_0 (G : JG) {Rt : JRt} (this : Option Nat) (i_1 : Int32) (i_2 : Int32) (i_3 : Int32) {H : JHp} (h :
  ∃ (a1 : Nat) (fs2 : List JVal) (r3 : Option Nat), this = some a1 ∧ job H a1 3 fs2 ∧ jn fs2 5 = some (jR r3) ∧
  /- X3_at -/ ∃ (x5 : Int32) (H4 : JHp), jok (jprog G) 121 [jI i_1, jI 2] H (.inl (some (jI x5))) H4 ∧
  ∃ (a6 n7 : Nat) (f8 : Nat → Int32), r3 = some a6 ∧ jar H4 a6 0 (aI n7 f8) ∧ vp_in x5 n7 ∧
  ((9 : Int32) ≤ (f8 (x5).toNatClampNeg) →
    jwp (jprog G) 312 Rt 29 [some (jR this), some (jI i_1), some (jI i_2), some (jI i_3), none] [] H4) ∧
  (¬ (9 : Int32) ≤ (f8 (x5).toNatClampNeg) →
    ∃ (a9 : Nat) (fs10 : List JVal) (r11 : Option Nat), this = some a9 ∧ job H4 a9 3 fs10 ∧ jn fs10 5 = some (jR r11) ∧
    /- X3_at -/ ∃ (x13 : Int32) (H12 : JHp), jok (jprog G) 121 [jI i_1, jI 2] H4 (.inl (some (jI x13))) H12 ∧
    ∃ (a14 n15 : Nat) (f16 : Nat → Int32), r11 = some a14 ∧ jar H12 a14 0 (aI n15 f16) ∧ vp_in x13 n15 ∧
    ∃ (a17 n18 : Nat) (f19 : Nat → Int32), r11 = some a17 ∧ H12.1 a17 = some (true, jA 0 (aI n18 f19)) ∧ vp_in x13 n18 ∧ 
    jwp (jprog G) 312 Rt 29 [some (jR this), some (jI i_1), some (jI i_2), some (jI i_3), none] [] (jup H12 a17 (jA 0 (aI n18 (upd f19 (x13).toNatClampNeg ((f16 (x13).toNatClampNeg) + (1 : Int32)))))))) :
  jwp (jprog G) 312 Rt 0 [some (jR this), some (jI i_1), some (jI i_2), some (jI i_3), none] [] H :=
  junf_wp (jprog_nf G) (stop := jmem [29, 74]) (pX3_answers G) 4000 _ _ _ _ h
/-- UnheardBellsModel answers(III)V @29 -/
theorem gX3_answers_29 (G : JG) {Rt : JRt} (r_0 : Option Nat) (i_1 : Int32) (i_2 : Int32) (i_3 : Int32) (q_4 : Option JVal) {H : JHp} (h :
  ∃ (a1 : Nat) (fs2 : List JVal) (r3 : Option Nat), r_0 = some a1 ∧ job H a1 3 fs2 ∧ jn fs2 5 = some (jR r3) ∧
  /- X3_at -/ ∃ (x5 : Int32) (H4 : JHp), jok (jprog G) 121 [jI i_1, jI 3] H (.inl (some (jI x5))) H4 ∧
  ∃ (a6 n7 : Nat) (f8 : Nat → Int32), r3 = some a6 ∧ jar H4 a6 0 (aI n7 f8) ∧ vp_in x5 n7 ∧
  ∃ (a9 n10 : Nat) (f11 : Nat → Int32), r3 = some a9 ∧ H4.1 a9 = some (true, jA 0 (aI n10 f11)) ∧ vp_in x5 n10 ∧ 
  ∃ (a12 : Nat) (fs13 : List JVal) (r14 : Option Nat), r_0 = some a12 ∧ job (jup H4 a9 (jA 0 (aI n10 (upd f11 (x5).toNatClampNeg ((f8 (x5).toNatClampNeg) + (1 : Int32)))))) a12 3 fs13 ∧ jn fs13 5 = some (jR r14) ∧
  ∃ (a15 n16 : Nat) (f17 : Nat → Int32), r14 = some a15 ∧ jar (jup H4 a9 (jA 0 (aI n10 (upd f11 (x5).toNatClampNeg ((f8 (x5).toNatClampNeg) + (1 : Int32)))))) a15 0 (aI n16 f17) ∧ vp_in (5 : Int32) n16 ∧
  ∃ (a18 n19 : Nat) (f20 : Nat → Int32), r14 = some a18 ∧ (jup H4 a9 (jA 0 (aI n10 (upd f11 (x5).toNatClampNeg ((f8 (x5).toNatClampNeg) + (1 : Int32)))))).1 a18 = some (true, jA 0 (aI n19 f20)) ∧ vp_in (5 : Int32) n19 ∧ 
  ∃ (a21 : Nat) (fs22 : List JVal) (r23 : Option Nat), r_0 = some a21 ∧ job (jup (jup H4 a9 (jA 0 (aI n10 (upd f11 (x5).toNatClampNeg ((f8 (x5).toNatClampNeg) + (1 : Int32)))))) a18 (jA 0 (aI n19 (upd f20 ((5 : Int32)).toNatClampNeg ((f17 ((5 : Int32)).toNatClampNeg) + (1 : Int32)))))) a21 3 fs22 ∧ jn fs22 5 = some (jR r23) ∧
  ∃ (a24 n25 : Nat) (f26 : Nat → Int32), r23 = some a24 ∧ jar (jup (jup H4 a9 (jA 0 (aI n10 (upd f11 (x5).toNatClampNeg ((f8 (x5).toNatClampNeg) + (1 : Int32)))))) a18 (jA 0 (aI n19 (upd f20 ((5 : Int32)).toNatClampNeg ((f17 ((5 : Int32)).toNatClampNeg) + (1 : Int32)))))) a24 0 (aI n25 f26) ∧ vp_in ((211 : Int32) + i_2) n25 ∧
  ∃ (a27 n28 : Nat) (f29 : Nat → Int32), r23 = some a27 ∧ (jup (jup H4 a9 (jA 0 (aI n10 (upd f11 (x5).toNatClampNeg ((f8 (x5).toNatClampNeg) + (1 : Int32)))))) a18 (jA 0 (aI n19 (upd f20 ((5 : Int32)).toNatClampNeg ((f17 ((5 : Int32)).toNatClampNeg) + (1 : Int32)))))).1 a27 = some (true, jA 0 (aI n28 f29)) ∧ vp_in ((211 : Int32) + i_2) n28 ∧ 
  jwp (jprog G) 312 Rt 74 [some (jR r_0), some (jI i_1), some (jI i_2), some (jI i_3), some (jI 210)] [] (jup (jup (jup H4 a9 (jA 0 (aI n10 (upd f11 (x5).toNatClampNeg ((f8 (x5).toNatClampNeg) + (1 : Int32)))))) a18 (jA 0 (aI n19 (upd f20 ((5 : Int32)).toNatClampNeg ((f17 ((5 : Int32)).toNatClampNeg) + (1 : Int32)))))) a27 (jA 0 (aI n28 (upd f29 (((211 : Int32) + i_2)).toNatClampNeg ((f26 (((211 : Int32) + i_2)).toNatClampNeg) ||| (jshl (1 : Int32) i_1))))))) :
  jwp (jprog G) 312 Rt 29 [some (jR r_0), some (jI i_1), some (jI i_2), some (jI i_3), q_4] [] H :=
  junf_wp (jprog_nf G) (stop := jmem [29, 74]) (pX3_answers G) 4000 _ _ _ _ h
/-- UnheardBellsModel answers(III)V @74 -/
theorem gX3_answers_74 (G : JG) {Rt : JRt} (r_0 : Option Nat) (i_1 : Int32) (i_2 : Int32) (i_3 : Int32) (i_4 : Int32) {H : JHp} (h :
  (i_4 < (135 : Int32) →
    ∃ (a1 : Nat) (fs2 : List JVal) (r3 : Option Nat), r_0 = some a1 ∧ job H a1 3 fs2 ∧ jn fs2 5 = some (jR r3) ∧
    ∃ (a4 n5 : Nat) (f6 : Nat → Int32), r3 = some a4 ∧ H.1 a4 = some (true, jA 0 (aI n5 f6)) ∧ vp_in (131 : Int32) n5 ∧ 
    ∃ (a7 : Nat) (fs8 : List JVal) (r9 : Option Nat), r_0 = some a7 ∧ job (jup H a4 (jA 0 (aI n5 (upd f6 ((131 : Int32)).toNatClampNeg i_1)))) a7 3 fs8 ∧ jn fs8 5 = some (jR r9) ∧
    ∃ (a10 n11 : Nat) (f12 : Nat → Int32), r9 = some a10 ∧ (jup H a4 (jA 0 (aI n5 (upd f6 ((131 : Int32)).toNatClampNeg i_1)))).1 a10 = some (true, jA 0 (aI n11 f12)) ∧ vp_in (132 : Int32) n11 ∧ 
    ∃ (a13 : Nat) (fs14 : List JVal) (r15 : Option Nat), r_0 = some a13 ∧ job (jup (jup H a4 (jA 0 (aI n5 (upd f6 ((131 : Int32)).toNatClampNeg i_1)))) a10 (jA 0 (aI n11 (upd f12 ((132 : Int32)).toNatClampNeg i_2)))) a13 3 fs14 ∧ jn fs14 5 = some (jR r15) ∧
    ∃ (a16 : Nat) (fs17 : List JVal) (r18 : Option Nat), r_0 = some a16 ∧ job (jup (jup H a4 (jA 0 (aI n5 (upd f6 ((131 : Int32)).toNatClampNeg i_1)))) a10 (jA 0 (aI n11 (upd f12 ((132 : Int32)).toNatClampNeg i_2)))) a16 3 fs17 ∧ jn fs17 5 = some (jR r18) ∧
    ∃ (a19 n20 : Nat) (f21 : Nat → Int32), r18 = some a19 ∧ jar (jup (jup H a4 (jA 0 (aI n5 (upd f6 ((131 : Int32)).toNatClampNeg i_1)))) a10 (jA 0 (aI n11 (upd f12 ((132 : Int32)).toNatClampNeg i_2)))) a19 0 (aI n20 f21) ∧ vp_in (3 : Int32) n20 ∧
    ∃ (a22 n23 : Nat) (f24 : Nat → Int32), r15 = some a22 ∧ (jup (jup H a4 (jA 0 (aI n5 (upd f6 ((131 : Int32)).toNatClampNeg i_1)))) a10 (jA 0 (aI n11 (upd f12 ((132 : Int32)).toNatClampNeg i_2)))).1 a22 = some (true, jA 0 (aI n23 f24)) ∧ vp_in (133 : Int32) n23 ∧ 
    ∃ (a25 : Nat) (fs26 : List JVal) (r27 : Option Nat), r_0 = some a25 ∧ job (jup (jup (jup H a4 (jA 0 (aI n5 (upd f6 ((131 : Int32)).toNatClampNeg i_1)))) a10 (jA 0 (aI n11 (upd f12 ((132 : Int32)).toNatClampNeg i_2)))) a22 (jA 0 (aI n23 (upd f24 ((133 : Int32)).toNatClampNeg (f21 ((3 : Int32)).toNatClampNeg))))) a25 3 fs26 ∧ jn fs26 5 = some (jR r27) ∧
    ∃ (a28 n29 : Nat) (f30 : Nat → Int32), r27 = some a28 ∧ (jup (jup (jup H a4 (jA 0 (aI n5 (upd f6 ((131 : Int32)).toNatClampNeg i_1)))) a10 (jA 0 (aI n11 (upd f12 ((132 : Int32)).toNatClampNeg i_2)))) a22 (jA 0 (aI n23 (upd f24 ((133 : Int32)).toNatClampNeg (f21 ((3 : Int32)).toNatClampNeg))))).1 a28 = some (true, jA 0 (aI n29 f30)) ∧ vp_in (134 : Int32) n29 ∧ 
    ∃ (a31 : Nat) (fs32 : List JVal) (r33 : Option Nat), r_0 = some a31 ∧ job (jup (jup (jup (jup H a4 (jA 0 (aI n5 (upd f6 ((131 : Int32)).toNatClampNeg i_1)))) a10 (jA 0 (aI n11 (upd f12 ((132 : Int32)).toNatClampNeg i_2)))) a22 (jA 0 (aI n23 (upd f24 ((133 : Int32)).toNatClampNeg (f21 ((3 : Int32)).toNatClampNeg))))) a28 (jA 0 (aI n29 (upd f30 ((134 : Int32)).toNatClampNeg i_3)))) a31 3 fs32 ∧ jn fs32 5 = some (jR r33) ∧
    ∃ (a34 : Nat) (fs35 : List JVal) (r36 : Option Nat), r_0 = some a34 ∧ job (jup (jup (jup (jup H a4 (jA 0 (aI n5 (upd f6 ((131 : Int32)).toNatClampNeg i_1)))) a10 (jA 0 (aI n11 (upd f12 ((132 : Int32)).toNatClampNeg i_2)))) a22 (jA 0 (aI n23 (upd f24 ((133 : Int32)).toNatClampNeg (f21 ((3 : Int32)).toNatClampNeg))))) a28 (jA 0 (aI n29 (upd f30 ((134 : Int32)).toNatClampNeg i_3)))) a34 3 fs35 ∧ jn fs35 5 = some (jR r36) ∧
    ∃ (a37 n38 : Nat) (f39 : Nat → Int32), r36 = some a37 ∧ jar (jup (jup (jup (jup H a4 (jA 0 (aI n5 (upd f6 ((131 : Int32)).toNatClampNeg i_1)))) a10 (jA 0 (aI n11 (upd f12 ((132 : Int32)).toNatClampNeg i_2)))) a22 (jA 0 (aI n23 (upd f24 ((133 : Int32)).toNatClampNeg (f21 ((3 : Int32)).toNatClampNeg))))) a28 (jA 0 (aI n29 (upd f30 ((134 : Int32)).toNatClampNeg i_3)))) a37 0 (aI n38 f39) ∧ vp_in (9 : Int32) n38 ∧
    ((20 : Int32) ≤ (f39 ((9 : Int32)).toNatClampNeg) →
      ∃ (a40 n41 : Nat) (f42 : Nat → Int32), r33 = some a40 ∧ (jup (jup (jup (jup H a4 (jA 0 (aI n5 (upd f6 ((131 : Int32)).toNatClampNeg i_1)))) a10 (jA 0 (aI n11 (upd f12 ((132 : Int32)).toNatClampNeg i_2)))) a22 (jA 0 (aI n23 (upd f24 ((133 : Int32)).toNatClampNeg (f21 ((3 : Int32)).toNatClampNeg))))) a28 (jA 0 (aI n29 (upd f30 ((134 : Int32)).toNatClampNeg i_3)))).1 a40 = some (true, jA 0 (aI n41 f42)) ∧ vp_in (9 : Int32) n41 ∧ 
      Rt (.inl none) (jup (jup (jup (jup (jup H a4 (jA 0 (aI n5 (upd f6 ((131 : Int32)).toNatClampNeg i_1)))) a10 (jA 0 (aI n11 (upd f12 ((132 : Int32)).toNatClampNeg i_2)))) a22 (jA 0 (aI n23 (upd f24 ((133 : Int32)).toNatClampNeg (f21 ((3 : Int32)).toNatClampNeg))))) a28 (jA 0 (aI n29 (upd f30 ((134 : Int32)).toNatClampNeg i_3)))) a40 (jA 0 (aI n41 (upd f42 ((9 : Int32)).toNatClampNeg (20 : Int32)))))) ∧
    (¬ (20 : Int32) ≤ (f39 ((9 : Int32)).toNatClampNeg) →
      ∃ (a43 : Nat) (fs44 : List JVal) (r45 : Option Nat), r_0 = some a43 ∧ job (jup (jup (jup (jup H a4 (jA 0 (aI n5 (upd f6 ((131 : Int32)).toNatClampNeg i_1)))) a10 (jA 0 (aI n11 (upd f12 ((132 : Int32)).toNatClampNeg i_2)))) a22 (jA 0 (aI n23 (upd f24 ((133 : Int32)).toNatClampNeg (f21 ((3 : Int32)).toNatClampNeg))))) a28 (jA 0 (aI n29 (upd f30 ((134 : Int32)).toNatClampNeg i_3)))) a43 3 fs44 ∧ jn fs44 5 = some (jR r45) ∧
      ∃ (a46 n47 : Nat) (f48 : Nat → Int32), r45 = some a46 ∧ jar (jup (jup (jup (jup H a4 (jA 0 (aI n5 (upd f6 ((131 : Int32)).toNatClampNeg i_1)))) a10 (jA 0 (aI n11 (upd f12 ((132 : Int32)).toNatClampNeg i_2)))) a22 (jA 0 (aI n23 (upd f24 ((133 : Int32)).toNatClampNeg (f21 ((3 : Int32)).toNatClampNeg))))) a28 (jA 0 (aI n29 (upd f30 ((134 : Int32)).toNatClampNeg i_3)))) a46 0 (aI n47 f48) ∧ vp_in (9 : Int32) n47 ∧
      ∃ (a49 n50 : Nat) (f51 : Nat → Int32), r33 = some a49 ∧ (jup (jup (jup (jup H a4 (jA 0 (aI n5 (upd f6 ((131 : Int32)).toNatClampNeg i_1)))) a10 (jA 0 (aI n11 (upd f12 ((132 : Int32)).toNatClampNeg i_2)))) a22 (jA 0 (aI n23 (upd f24 ((133 : Int32)).toNatClampNeg (f21 ((3 : Int32)).toNatClampNeg))))) a28 (jA 0 (aI n29 (upd f30 ((134 : Int32)).toNatClampNeg i_3)))).1 a49 = some (true, jA 0 (aI n50 f51)) ∧ vp_in (9 : Int32) n50 ∧ 
      Rt (.inl none) (jup (jup (jup (jup (jup H a4 (jA 0 (aI n5 (upd f6 ((131 : Int32)).toNatClampNeg i_1)))) a10 (jA 0 (aI n11 (upd f12 ((132 : Int32)).toNatClampNeg i_2)))) a22 (jA 0 (aI n23 (upd f24 ((133 : Int32)).toNatClampNeg (f21 ((3 : Int32)).toNatClampNeg))))) a28 (jA 0 (aI n29 (upd f30 ((134 : Int32)).toNatClampNeg i_3)))) a49 (jA 0 (aI n50 (upd f51 ((9 : Int32)).toNatClampNeg ((f48 ((9 : Int32)).toNatClampNeg) + (1 : Int32)))))))) ∧
  (¬ i_4 < (135 : Int32) →
    ∃ (a52 : Nat) (fs53 : List JVal) (r54 : Option Nat), r_0 = some a52 ∧ job H a52 3 fs53 ∧ jn fs53 5 = some (jR r54) ∧
    ∃ (a55 : Nat) (fs56 : List JVal) (r57 : Option Nat), r_0 = some a55 ∧ job H a55 3 fs56 ∧ jn fs56 5 = some (jR r57) ∧
    ∃ (a58 n59 : Nat) (f60 : Nat → Int32), r57 = some a58 ∧ jar H a58 0 (aI n59 f60) ∧ vp_in (i_4 - (4 : Int32)) n59 ∧
    ∃ (a61 n62 : Nat) (f63 : Nat → Int32), r54 = some a61 ∧ H.1 a61 = some (true, jA 0 (aI n62 f63)) ∧ vp_in i_4 n62 ∧ 
    jwp (jprog G) 312 Rt 74 [some (jR r_0), some (jI i_1), some (jI i_2), some (jI i_3), some (jI (i_4 + (-1)))] [] (jup H a61 (jA 0 (aI n62 (upd f63 (i_4).toNatClampNeg (f60 ((i_4 - (4 : Int32))).toNatClampNeg))))))) :
  jwp (jprog G) 312 Rt 74 [some (jR r_0), some (jI i_1), some (jI i_2), some (jI i_3), some (jI i_4)] [] H :=
  junf_wp (jprog_nf G) (stop := jmem [29, 74]) (pX3_answers G) 4000 _ _ _ _ h
/-- UnheardBellsModel ringsNext()I @0 -/
theorem gX3_ringsNext_0 (G : JG) {Rt : JRt} (this : Option Nat) {H : JHp} (h :
  ∃ (a1 : Nat) (fs2 : List JVal), this = some a1 ∧ job H a1 3 fs2 ∧ /- X3_pulled -/ ∃ (x4 : Int32) (H3 : JHp), jok (jprog G) 224 [jR this, jI 0, jI 0] H (.inl (some (jI x4))) H3 ∧
  ∃ (a5 : Nat) (fs6 : List JVal), this = some a5 ∧ job H3 a5 3 fs6 ∧ /- X3_pulled -/ ∃ (x8 : Int32) (H7 : JHp), jok (jprog G) 224 [jR this, jI 0, jI 1] H3 (.inl (some (jI x8))) H7 ∧
  ∃ (a9 : Nat) (fs10 : List JVal), this = some a9 ∧ job H7 a9 3 fs10 ∧ /- X3_pulled -/ ∃ (x12 : Int32) (H11 : JHp), jok (jprog G) 224 [jR this, jI 0, jI 2] H7 (.inl (some (jI x12))) H11 ∧
  ∃ (a13 : Nat) (fs14 : List JVal), this = some a13 ∧ job H11 a13 3 fs14 ∧ /- X3_goes -/ ∃ H15 : JHp, jok (jprog G) 310 [jR this, jI 0] H11 (.inl none) H15 ∧
  ∃ (a16 : Nat) (fs17 : List JVal) (r18 : Option Nat), this = some a16 ∧ job H15 a16 3 fs17 ∧ jn fs17 5 = some (jR r18) ∧
  ∃ (a19 n20 : Nat) (f21 : Nat → Int32), r18 = some a19 ∧ H15.1 a19 = some (true, jA 0 (aI n20 f21)) ∧ vp_in (2 : Int32) n20 ∧ 
  ∃ (a22 : Nat) (fs23 : List JVal) (r24 : Option Nat), this = some a22 ∧ job (jup H15 a19 (jA 0 (aI n20 (upd f21 ((2 : Int32)).toNatClampNeg x8)))) a22 3 fs23 ∧ jn fs23 5 = some (jR r24) ∧
  ∃ (a25 n26 : Nat) (f27 : Nat → Int32), r24 = some a25 ∧ jar (jup H15 a19 (jA 0 (aI n20 (upd f21 ((2 : Int32)).toNatClampNeg x8)))) a25 0 (aI n26 f27) ∧ vp_in (10 : Int32) n26 ∧
  ∃ (a28 n29 : Nat) (f30 : Nat → Int32), r24 = some a28 ∧ (jup H15 a19 (jA 0 (aI n20 (upd f21 ((2 : Int32)).toNatClampNeg x8)))).1 a28 = some (true, jA 0 (aI n29 f30)) ∧ vp_in (10 : Int32) n29 ∧ 
  ∃ (a31 : Nat) (fs32 : List JVal) (r33 : Option Nat), this = some a31 ∧ job (jup (jup H15 a19 (jA 0 (aI n20 (upd f21 ((2 : Int32)).toNatClampNeg x8)))) a28 (jA 0 (aI n29 (upd f30 ((10 : Int32)).toNatClampNeg ((f27 ((10 : Int32)).toNatClampNeg) + (1 : Int32)))))) a31 3 fs32 ∧ jn fs32 5 = some (jR r33) ∧
  ∃ (a34 n35 : Nat) (f36 : Nat → Int32), r33 = some a34 ∧ jar (jup (jup H15 a19 (jA 0 (aI n20 (upd f21 ((2 : Int32)).toNatClampNeg x8)))) a28 (jA 0 (aI n29 (upd f30 ((10 : Int32)).toNatClampNeg ((f27 ((10 : Int32)).toNatClampNeg) + (1 : Int32)))))) a34 0 (aI n35 f36) ∧ vp_in ((211 : Int32) + x8) n35 ∧
  (¬ ((jshr (f36 (((211 : Int32) + x8)).toNatClampNeg) x4) &&& (1 : Int32)) = (1 : Int32) →
    ∃ (a37 : Nat) (fs38 : List JVal), this = some a37 ∧ job (jup (jup H15 a19 (jA 0 (aI n20 (upd f21 ((2 : Int32)).toNatClampNeg x8)))) a28 (jA 0 (aI n29 (upd f30 ((10 : Int32)).toNatClampNeg ((f27 ((10 : Int32)).toNatClampNeg) + (1 : Int32)))))) a37 3 fs38 ∧ /- X3_isHeard -/ ∃ (x40 : Int32) (H39 : JHp), jok (jprog G) 311 [jR this, jI x4, jI x12] (jup (jup H15 a19 (jA 0 (aI n20 (upd f21 ((2 : Int32)).toNatClampNeg x8)))) a28 (jA 0 (aI n29 (upd f30 ((10 : Int32)).toNatClampNeg ((f27 ((10 : Int32)).toNatClampNeg) + (1 : Int32)))))) (.inl (some (jI x40))) H39 ∧
    (x40 = 0 →
      ∃ (a41 : Nat) (fs42 : List JVal) (r43 : Option Nat), this = some a41 ∧ job H39 a41 3 fs42 ∧ jn fs42 5 = some (jR r43) ∧
      /- X3_at -/ ∃ (x45 : Int32) (H44 : JHp), jok (jprog G) 121 [jI x4, jI 4] H39 (.inl (some (jI x45))) H44 ∧
      ∃ (a46 n47 : Nat) (f48 : Nat → Int32), r43 = some a46 ∧ jar H44 a46 0 (aI n47 f48) ∧ vp_in x45 n47 ∧
      ∃ (a49 n50 : Nat) (f51 : Nat → Int32), r43 = some a49 ∧ H44.1 a49 = some (true, jA 0 (aI n50 f51)) ∧ vp_in x45 n50 ∧ 
      ∃ (a52 : Nat) (fs53 : List JVal) (r54 : Option Nat), this = some a52 ∧ job (jup H44 a49 (jA 0 (aI n50 (upd f51 (x45).toNatClampNeg ((f48 (x45).toNatClampNeg) + (1 : Int32)))))) a52 3 fs53 ∧ jn fs53 5 = some (jR r54) ∧
      ∃ (a55 n56 : Nat) (f57 : Nat → Int32), r54 = some a55 ∧ jar (jup H44 a49 (jA 0 (aI n50 (upd f51 (x45).toNatClampNeg ((f48 (x45).toNatClampNeg) + (1 : Int32)))))) a55 0 (aI n56 f57) ∧ vp_in (6 : Int32) n56 ∧
      ∃ (a58 n59 : Nat) (f60 : Nat → Int32), r54 = some a58 ∧ (jup H44 a49 (jA 0 (aI n50 (upd f51 (x45).toNatClampNeg ((f48 (x45).toNatClampNeg) + (1 : Int32)))))).1 a58 = some (true, jA 0 (aI n59 f60)) ∧ vp_in (6 : Int32) n59 ∧ 
      Rt (.inl (some (jI 0))) (jup (jup H44 a49 (jA 0 (aI n50 (upd f51 (x45).toNatClampNeg ((f48 (x45).toNatClampNeg) + (1 : Int32)))))) a58 (jA 0 (aI n59 (upd f60 ((6 : Int32)).toNatClampNeg ((f57 ((6 : Int32)).toNatClampNeg) + (1 : Int32))))))) ∧
    (¬ x40 = 0 →
      ∃ (a61 : Nat) (fs62 : List JVal), this = some a61 ∧ job H39 a61 3 fs62 ∧ /- X3_answers -/ ∃ H63 : JHp, jok (jprog G) 312 [jR this, jI x4, jI x8, jI x12] H39 (.inl none) H63 ∧
      Rt (.inl (some (jI 1))) H63)) ∧
  (¬ ¬ ((jshr (f36 (((211 : Int32) + x8)).toNatClampNeg) x4) &&& (1 : Int32)) = (1 : Int32) →
    ∃ (a64 : Nat) (fs65 : List JVal) (r66 : Option Nat), this = some a64 ∧ job (jup (jup H15 a19 (jA 0 (aI n20 (upd f21 ((2 : Int32)).toNatClampNeg x8)))) a28 (jA 0 (aI n29 (upd f30 ((10 : Int32)).toNatClampNeg ((f27 ((10 : Int32)).toNatClampNeg) + (1 : Int32)))))) a64 3 fs65 ∧ jn fs65 5 = some (jR r66) ∧
    /- X3_at -/ ∃ (x68 : Int32) (H67 : JHp), jok (jprog G) 121 [jI x4, jI 5] (jup (jup H15 a19 (jA 0 (aI n20 (upd f21 ((2 : Int32)).toNatClampNeg x8)))) a28 (jA 0 (aI n29 (upd f30 ((10 : Int32)).toNatClampNeg ((f27 ((10 : Int32)).toNatClampNeg) + (1 : Int32)))))) (.inl (some (jI x68))) H67 ∧
    ∃ (a69 n70 : Nat) (f71 : Nat → Int32), r66 = some a69 ∧ jar H67 a69 0 (aI n70 f71) ∧ vp_in x68 n70 ∧
    ∃ (a72 n73 : Nat) (f74 : Nat → Int32), r66 = some a72 ∧ H67.1 a72 = some (true, jA 0 (aI n73 f74)) ∧ vp_in x68 n73 ∧ 
    ∃ (a75 : Nat) (fs76 : List JVal) (r77 : Option Nat), this = some a75 ∧ job (jup H67 a72 (jA 0 (aI n73 (upd f74 (x68).toNatClampNeg ((f71 (x68).toNatClampNeg) + (1 : Int32)))))) a75 3 fs76 ∧ jn fs76 5 = some (jR r77) ∧
    ∃ (a78 n79 : Nat) (f80 : Nat → Int32), r77 = some a78 ∧ jar (jup H67 a72 (jA 0 (aI n73 (upd f74 (x68).toNatClampNeg ((f71 (x68).toNatClampNeg) + (1 : Int32)))))) a78 0 (aI n79 f80) ∧ vp_in (7 : Int32) n79 ∧
    ∃ (a81 n82 : Nat) (f83 : Nat → Int32), r77 = some a81 ∧ (jup H67 a72 (jA 0 (aI n73 (upd f74 (x68).toNatClampNeg ((f71 (x68).toNatClampNeg) + (1 : Int32)))))).1 a81 = some (true, jA 0 (aI n82 f83)) ∧ vp_in (7 : Int32) n82 ∧ 
    Rt (.inl (some (jI 2))) (jup (jup H67 a72 (jA 0 (aI n73 (upd f74 (x68).toNatClampNeg ((f71 (x68).toNatClampNeg) + (1 : Int32)))))) a81 (jA 0 (aI n82 (upd f83 ((7 : Int32)).toNatClampNeg ((f80 ((7 : Int32)).toNatClampNeg) + (1 : Int32)))))))) :
  jwp (jprog G) 313 Rt 0 [some (jR this), none, none, none] [] H :=
  junf_wp (jprog_nf G) (stop := jmem []) (pX3_ringsNext G) 4000 _ _ _ _ h
/-- UnheardBellsModel rings()I @0 -/
theorem gX3_rings_0 (G : JG) {Rt : JRt} (this : Option Nat) {H : JHp} (h :
  ∃ (a1 : Nat) (fs2 : List JVal) (r3 : Option Nat), this = some a1 ∧ job H a1 3 fs2 ∧ jn fs2 5 = some (jR r3) ∧
  ∃ (a4 n5 : Nat) (f6 : Nat → Int32), r3 = some a4 ∧ jar H a4 0 (aI n5 f6) ∧ vp_in (1 : Int32) n5 ∧
  (¬ (f6 ((1 : Int32)).toNatClampNeg) = 0 →
    ∃ (a7 : Nat) (fs8 : List JVal), this = some a7 ∧ job H a7 3 fs8 ∧ /- X3_ringsNext -/ ∃ (x10 : Int32) (H9 : JHp), jok (jprog G) 313 [jR this] H (.inl (some (jI x10))) H9 ∧
    Rt (.inl (some (jI x10))) H9) ∧
  (¬ ¬ (f6 ((1 : Int32)).toNatClampNeg) = 0 →
    ∃ (a11 : Nat) (fs12 : List JVal) (r13 : Option Nat), this = some a11 ∧ job H a11 3 fs12 ∧ jn fs12 5 = some (jR r13) ∧
    ∃ (a14 n15 : Nat) (f16 : Nat → Int32), r13 = some a14 ∧ jar H a14 0 (aI n15 f16) ∧ vp_in (10 : Int32) n15 ∧
    ∃ (a17 : Nat) (fs18 : List JVal), this = some a17 ∧ job H a17 3 fs18 ∧ /- X3_refuses -/ ∃ (x20 : Int32) (H19 : JHp), jok (jprog G) 302 [jR this, jI 3, jI (f16 ((10 : Int32)).toNatClampNeg)] H (.inl (some (jI x20))) H19 ∧
    Rt (.inl (some (jI x20))) H19)) :
  jwp (jprog G) 314 Rt 0 [some (jR this)] [] H :=
  junf_wp (jprog_nf G) (stop := jmem []) (pX3_rings G) 4000 _ _ _ _ h
/-- UnheardBellsModel hours()I @0 -/
theorem gX3_hours_0 (G : JG) {Rt : JRt} (this : Option Nat) {H : JHp} (h :
  ∃ (a1 : Nat) (fs2 : List JVal) (r3 : Option Nat), this = some a1 ∧ job H a1 3 fs2 ∧ jn fs2 5 = some (jR r3) ∧
  ∃ (a4 n5 : Nat) (f6 : Nat → Int32), r3 = some a4 ∧ jar H a4 0 (aI n5 f6) ∧ vp_in (1 : Int32) n5 ∧
  (¬ (f6 ((1 : Int32)).toNatClampNeg) = 0 →
    ∃ (a7 : Nat) (fs8 : List JVal), this = some a7 ∧ job H a7 3 fs8 ∧ /- X3_pulled -/ ∃ (x10 : Int32) (H9 : JHp), jok (jprog G) 224 [jR this, jI 0, jI 1] H (.inl (some (jI x10))) H9 ∧
    jwp (jprog G) 315 Rt 31 [some (jR this), some (jI x10), some (jI 0)] [] H9) ∧
  (¬ ¬ (f6 ((1 : Int32)).toNatClampNeg) = 0 →
    ∃ (a11 : Nat) (fs12 : List JVal) (r13 : Option Nat), this = some a11 ∧ job H a11 3 fs12 ∧ jn fs12 5 = some (jR r13) ∧
    ∃ (a14 n15 : Nat) (f16 : Nat → Int32), r13 = some a14 ∧ jar H a14 0 (aI n15 f16) ∧ vp_in (10 : Int32) n15 ∧
    ∃ (a17 : Nat) (fs18 : List JVal), this = some a17 ∧ job H a17 3 fs18 ∧ /- X3_refuses -/ ∃ (x20 : Int32) (H19 : JHp), jok (jprog G) 302 [jR this, jI 3, jI (f16 ((10 : Int32)).toNatClampNeg)] H (.inl (some (jI x20))) H19 ∧
    Rt (.inl (some (jI x20))) H19)) :
  jwp (jprog G) 315 Rt 0 [some (jR this), none, none] [] H :=
  junf_wp (jprog_nf G) (stop := jmem [31]) (pX3_hours G) 4000 _ _ _ _ h
/-- UnheardBellsModel hours()I @31 -/
theorem gX3_hours_31 (G : JG) {Rt : JRt} (r_0 : Option Nat) (i_1 : Int32) (i_2 : Int32) {H : JHp} (h :
  ∃ (a1 : Nat) (fs2 : List JVal) (r3 : Option Nat), r_0 = some a1 ∧ job H a1 3 fs2 ∧ jn fs2 5 = some (jR r3) ∧
  ∃ (a4 n5 : Nat) (f6 : Nat → Int32), r3 = some a4 ∧ jar H a4 0 (aI n5 f6) ∧ vp_in (1 : Int32) n5 ∧
  ((f6 ((1 : Int32)).toNatClampNeg) ≤ 0 →
    Rt (.inl (some (jI i_2))) H) ∧
  (¬ (f6 ((1 : Int32)).toNatClampNeg) ≤ 0 →
    ∃ (a7 : Nat) (fs8 : List JVal), r_0 = some a7 ∧ job H a7 3 fs8 ∧ /- X3_pulled -/ ∃ (x10 : Int32) (H9 : JHp), jok (jprog G) 224 [jR r_0, jI 0, jI 1] H (.inl (some (jI x10))) H9 ∧
    (¬ x10 = i_1 →
      Rt (.inl (some (jI i_2))) H9) ∧
    (¬ ¬ x10 = i_1 →
      ∃ (a11 : Nat) (fs12 : List JVal), r_0 = some a11 ∧ job H9 a11 3 fs12 ∧ /- X3_ringsNext -/ ∃ (x14 : Int32) (H13 : JHp), jok (jprog G) 313 [jR r_0] H9 (.inl (some (jI x14))) H13 ∧
      (¬ x14 = (1 : Int32) →
        jwp (jprog G) 315 Rt 31 [some (jR r_0), some (jI i_1), some (jI (i_2 + (0 : Int32)))] [] H13) ∧
      (¬ ¬ x14 = (1 : Int32) →
        jwp (jprog G) 315 Rt 31 [some (jR r_0), some (jI i_1), some (jI (i_2 + (1 : Int32)))] [] H13)))) :
  jwp (jprog G) 315 Rt 31 [some (jR r_0), some (jI i_1), some (jI i_2)] [] H :=
  junf_wp (jprog_nf G) (stop := jmem [31]) (pX3_hours G) 4000 _ _ _ _ h
/-- UnheardBellsModel endsDay()I @0 -/
theorem gX3_endsDay_0 (G : JG) {Rt : JRt} (this : Option Nat) {H : JHp} (h :
  ∃ (a1 : Nat) (fs2 : List JVal) (r3 : Option Nat), this = some a1 ∧ job H a1 3 fs2 ∧ jn fs2 5 = some (jR r3) ∧
  ∃ (a4 n5 : Nat) (f6 : Nat → Int32), r3 = some a4 ∧ jar H a4 0 (aI n5 f6) ∧ vp_in (1 : Int32) n5 ∧
  jwp (jprog G) 316 Rt 11 [some (jR this), some (jI (f6 ((1 : Int32)).toNatClampNeg)), some (jI 0), some (jI 0)] [] H) :
  jwp (jprog G) 316 Rt 0 [some (jR this), none, none, none] [] H :=
  junf_wp (jprog_nf G) (stop := jmem [11, 44, 84, 122]) (pX3_endsDay G) 4000 _ _ _ _ h
/-- UnheardBellsModel endsDay()I @11 -/
theorem gX3_endsDay_11 (G : JG) {Rt : JRt} (r_0 : Option Nat) (i_1 : Int32) (i_2 : Int32) (i_3 : Int32) {H : JHp} (h :
  (i_1 ≤ i_3 →
    jwp (jprog G) 316 Rt 44 [some (jR r_0), some (jI i_1), some (jI i_2), some (jI 83)] [] H) ∧
  (¬ i_1 ≤ i_3 →
    ∃ (a1 : Nat) (fs2 : List JVal) (r3 : Option Nat), r_0 = some a1 ∧ job H a1 3 fs2 ∧ jn fs2 5 = some (jR r3) ∧
    ∃ (a4 : Nat) (fs5 : List JVal), r_0 = some a4 ∧ job H a4 3 fs5 ∧ /- X3_pulled -/ ∃ (x7 : Int32) (H6 : JHp), jok (jprog G) 224 [jR r_0, jI i_3, jI 0] H (.inl (some (jI x7))) H6 ∧
    /- X3_at -/ ∃ (x9 : Int32) (H8 : JHp), jok (jprog G) 121 [jI x7, jI 4] H6 (.inl (some (jI x9))) H8 ∧
    ∃ (a10 n11 : Nat) (f12 : Nat → Int32), r3 = some a10 ∧ jar H8 a10 0 (aI n11 f12) ∧ vp_in x9 n11 ∧
    ∃ (a13 n14 : Nat) (f15 : Nat → Int32), r3 = some a13 ∧ H8.1 a13 = some (true, jA 0 (aI n14 f15)) ∧ vp_in x9 n14 ∧ 
    jwp (jprog G) 316 Rt 11 [some (jR r_0), some (jI i_1), some (jI i_2), some (jI (i_3 + 1))] [] (jup H8 a13 (jA 0 (aI n14 (upd f15 (x9).toNatClampNeg ((f12 (x9).toNatClampNeg) + (1 : Int32)))))))) :
  jwp (jprog G) 316 Rt 11 [some (jR r_0), some (jI i_1), some (jI i_2), some (jI i_3)] [] H :=
  junf_wp (jprog_nf G) (stop := jmem [11, 44, 84, 122]) (pX3_endsDay G) 4000 _ _ _ _ h
/-- UnheardBellsModel endsDay()I @44 -/
theorem gX3_endsDay_44 (G : JG) {Rt : JRt} (r_0 : Option Nat) (i_1 : Int32) (i_2 : Int32) (i_3 : Int32) {H : JHp} (h :
  ((131 : Int32) ≤ i_3 →
    ∃ (a1 : Nat) (fs2 : List JVal) (r3 : Option Nat), r_0 = some a1 ∧ job H a1 3 fs2 ∧ jn fs2 5 = some (jR r3) ∧
    ∃ (a4 n5 : Nat) (f6 : Nat → Int32), r3 = some a4 ∧ H.1 a4 = some (true, jA 0 (aI n5 f6)) ∧ vp_in (1 : Int32) n5 ∧ 
    ∃ (a7 : Nat) (fs8 : List JVal) (r9 : Option Nat), r_0 = some a7 ∧ job (jup H a4 (jA 0 (aI n5 (upd f6 ((1 : Int32)).toNatClampNeg (0 : Int32))))) a7 3 fs8 ∧ jn fs8 5 = some (jR r9) ∧
    ∃ (a10 n11 : Nat) (f12 : Nat → Int32), r9 = some a10 ∧ jar (jup H a4 (jA 0 (aI n5 (upd f6 ((1 : Int32)).toNatClampNeg (0 : Int32))))) a10 0 (aI n11 f12) ∧ vp_in (6 : Int32) n11 ∧
    ∃ (a13 n14 : Nat) (f15 : Nat → Int32), r9 = some a13 ∧ (jup H a4 (jA 0 (aI n5 (upd f6 ((1 : Int32)).toNatClampNeg (0 : Int32))))).1 a13 = some (true, jA 0 (aI n14 f15)) ∧ vp_in (6 : Int32) n14 ∧ 
    jwp (jprog G) 316 Rt 84 [some (jR r_0), some (jI i_1), some (jI i_2), some (jI 0)] [] (jup (jup H a4 (jA 0 (aI n5 (upd f6 ((1 : Int32)).toNatClampNeg (0 : Int32))))) a13 (jA 0 (aI n14 (upd f15 ((6 : Int32)).toNatClampNeg ((f12 ((6 : Int32)).toNatClampNeg) + i_1)))))) ∧
  (¬ (131 : Int32) ≤ i_3 →
    ∃ (a16 : Nat) (fs17 : List JVal) (r18 : Option Nat), r_0 = some a16 ∧ job H a16 3 fs17 ∧ jn fs17 5 = some (jR r18) ∧
    ∃ (a19 n20 : Nat) (f21 : Nat → Int32), r18 = some a19 ∧ H.1 a19 = some (true, jA 0 (aI n20 f21)) ∧ vp_in i_3 n20 ∧ 
    jwp (jprog G) 316 Rt 44 [some (jR r_0), some (jI i_1), some (jI i_2), some (jI (i_3 + 1))] [] (jup H a19 (jA 0 (aI n20 (upd f21 (i_3).toNatClampNeg (0 : Int32))))))) :
  jwp (jprog G) 316 Rt 44 [some (jR r_0), some (jI i_1), some (jI i_2), some (jI i_3)] [] H :=
  junf_wp (jprog_nf G) (stop := jmem [11, 44, 84, 122]) (pX3_endsDay G) 4000 _ _ _ _ h
/-- UnheardBellsModel endsDay()I @84 -/
theorem gX3_endsDay_84 (G : JG) {Rt : JRt} (r_0 : Option Nat) (i_1 : Int32) (i_2 : Int32) (i_3 : Int32) {H : JHp} (h :
  ((24 : Int32) ≤ i_3 →
    jwp (jprog G) 316 Rt 122 [some (jR r_0), some (jI i_1), some (jI i_2), some (jI 0)] [] H) ∧
  (¬ (24 : Int32) ≤ i_3 →
    ∃ (a1 : Nat) (fs2 : List JVal) (r3 : Option Nat), r_0 = some a1 ∧ job H a1 3 fs2 ∧ jn fs2 5 = some (jR r3) ∧
    ∃ (a4 n5 : Nat) (f6 : Nat → Int32), r3 = some a4 ∧ jar H a4 0 (aI n5 f6) ∧ vp_in ((211 : Int32) + i_3) n5 ∧
    ∃ (a7 : Nat) (fs8 : List JVal) (r9 : Option Nat), r_0 = some a7 ∧ job H a7 3 fs8 ∧ jn fs8 5 = some (jR r9) ∧
    ∃ (a10 n11 : Nat) (f12 : Nat → Int32), r9 = some a10 ∧ H.1 a10 = some (true, jA 0 (aI n11 f12)) ∧ vp_in ((211 : Int32) + i_3) n11 ∧ 
    jwp (jprog G) 316 Rt 84 [some (jR r_0), some (jI i_1), some (jI (i_2 ||| (f6 (((211 : Int32) + i_3)).toNatClampNeg))), some (jI (i_3 + 1))] [] (jup H a10 (jA 0 (aI n11 (upd f12 (((211 : Int32) + i_3)).toNatClampNeg (0 : Int32))))))) :
  jwp (jprog G) 316 Rt 84 [some (jR r_0), some (jI i_1), some (jI i_2), some (jI i_3)] [] H :=
  junf_wp (jprog_nf G) (stop := jmem [11, 44, 84, 122]) (pX3_endsDay G) 4000 _ _ _ _ h
/-- UnheardBellsModel endsDay()I @122 -/
theorem gX3_endsDay_122 (G : JG) {Rt : JRt} (r_0 : Option Nat) (i_1 : Int32) (i_2 : Int32) (i_3 : Int32) {H : JHp} (h :
  ∃ (a1 : Nat) (fs2 : List JVal) (r3 : Option Nat), r_0 = some a1 ∧ job H a1 3 fs2 ∧ jn fs2 5 = some (jR r3) ∧
  ∃ (a4 n5 : Nat) (f6 : Nat → Int32), r3 = some a4 ∧ jar H a4 0 (aI n5 f6) ∧ vp_in (0 : Int32) n5 ∧
  ((f6 ((0 : Int32)).toNatClampNeg) ≤ i_3 →
    ∃ (a7 : Nat) (fs8 : List JVal) (r9 : Option Nat), r_0 = some a7 ∧ job H a7 3 fs8 ∧ jn fs8 5 = some (jR r9) ∧
    ∃ (a10 n11 : Nat) (f12 : Nat → Int32), r9 = some a10 ∧ H.1 a10 = some (true, jA 0 (aI n11 f12)) ∧ vp_in (2 : Int32) n11 ∧ 
    ∃ (a13 : Nat) (fs14 : List JVal) (r15 : Option Nat), r_0 = some a13 ∧ job (jup H a10 (jA 0 (aI n11 (upd f12 ((2 : Int32)).toNatClampNeg (0 : Int32))))) a13 3 fs14 ∧ jn fs14 5 = some (jR r15) ∧
    ∃ (a16 n17 : Nat) (f18 : Nat → Int32), r15 = some a16 ∧ jar (jup H a10 (jA 0 (aI n11 (upd f12 ((2 : Int32)).toNatClampNeg (0 : Int32))))) a16 0 (aI n17 f18) ∧ vp_in (3 : Int32) n17 ∧
    ∃ (a19 n20 : Nat) (f21 : Nat → Int32), r15 = some a19 ∧ (jup H a10 (jA 0 (aI n11 (upd f12 ((2 : Int32)).toNatClampNeg (0 : Int32))))).1 a19 = some (true, jA 0 (aI n20 f21)) ∧ vp_in (3 : Int32) n20 ∧ 
    Rt (.inl (some (jI i_1))) (jup (jup H a10 (jA 0 (aI n11 (upd f12 ((2 : Int32)).toNatClampNeg (0 : Int32))))) a19 (jA 0 (aI n20 (upd f21 ((3 : Int32)).toNatClampNeg ((f18 ((3 : Int32)).toNatClampNeg) + (1 : Int32))))))) ∧
  (¬ (f6 ((0 : Int32)).toNatClampNeg) ≤ i_3 →
    (¬ ((jshr i_2 i_3) &&& (1 : Int32)) = 0 →
      jwp (jprog G) 316 Rt 122 [some (jR r_0), some (jI i_1), some (jI i_2), some (jI (i_3 + 1))] [] H) ∧
    (¬ ¬ ((jshr i_2 i_3) &&& (1 : Int32)) = 0 →
      ∃ (a22 : Nat) (fs23 : List JVal) (r24 : Option Nat), r_0 = some a22 ∧ job H a22 3 fs23 ∧ jn fs23 5 = some (jR r24) ∧
      /- X3_at -/ ∃ (x26 : Int32) (H25 : JHp), jok (jprog G) 121 [jI i_3, jI 2] H (.inl (some (jI x26))) H25 ∧
      ∃ (a27 n28 : Nat) (f29 : Nat → Int32), r24 = some a27 ∧ jar H25 a27 0 (aI n28 f29) ∧ vp_in x26 n28 ∧
      ((f29 (x26).toNatClampNeg) ≤ 0 →
        jwp (jprog G) 316 Rt 122 [some (jR r_0), some (jI i_1), some (jI i_2), some (jI (i_3 + 1))] [] H25) ∧
      (¬ (f29 (x26).toNatClampNeg) ≤ 0 →
        ∃ (a30 : Nat) (fs31 : List JVal) (r32 : Option Nat), r_0 = some a30 ∧ job H25 a30 3 fs31 ∧ jn fs31 5 = some (jR r32) ∧
        /- X3_at -/ ∃ (x34 : Int32) (H33 : JHp), jok (jprog G) 121 [jI i_3, jI 2] H25 (.inl (some (jI x34))) H33 ∧
        ∃ (a35 n36 : Nat) (f37 : Nat → Int32), r32 = some a35 ∧ jar H33 a35 0 (aI n36 f37) ∧ vp_in x34 n36 ∧
        ∃ (a38 n39 : Nat) (f40 : Nat → Int32), r32 = some a38 ∧ H33.1 a38 = some (true, jA 0 (aI n39 f40)) ∧ vp_in x34 n39 ∧ 
        jwp (jprog G) 316 Rt 122 [some (jR r_0), some (jI i_1), some (jI i_2), some (jI (i_3 + 1))] [] (jup H33 a38 (jA 0 (aI n39 (upd f40 (x34).toNatClampNeg ((f37 (x34).toNatClampNeg) - (1 : Int32)))))))))) :
  jwp (jprog G) 316 Rt 122 [some (jR r_0), some (jI i_1), some (jI i_2), some (jI i_3)] [] H :=
  junf_wp (jprog_nf G) (stop := jmem [11, 44, 84, 122]) (pX3_endsDay G) 4000 _ _ _ _ h
/-- UnheardBellsModel waitingOf(I)I @0 -/
theorem gX3_waitingOf_0 (G : JG) {Rt : JRt} (this : Option Nat) (i_1 : Int32) {H : JHp} (h :
  jwp (jprog G) 317 Rt 4 [some (jR this), some (jI i_1), some (jI 0), some (jI 0)] [] H) :
  jwp (jprog G) 317 Rt 0 [some (jR this), some (jI i_1), none, none] [] H :=
  junf_wp (jprog_nf G) (stop := jmem [4]) (pX3_waitingOf G) 4000 _ _ _ _ h
/-- UnheardBellsModel waitingOf(I)I @4 -/
theorem gX3_waitingOf_4 (G : JG) {Rt : JRt} (r_0 : Option Nat) (i_1 : Int32) (i_2 : Int32) (i_3 : Int32) {H : JHp} (h :
  ∃ (a1 : Nat) (fs2 : List JVal) (r3 : Option Nat), r_0 = some a1 ∧ job H a1 3 fs2 ∧ jn fs2 5 = some (jR r3) ∧
  ∃ (a4 n5 : Nat) (f6 : Nat → Int32), r3 = some a4 ∧ jar H a4 0 (aI n5 f6) ∧ vp_in (1 : Int32) n5 ∧
  ((f6 ((1 : Int32)).toNatClampNeg) ≤ i_3 →
    Rt (.inl (some (jI i_2))) H) ∧
  (¬ (f6 ((1 : Int32)).toNatClampNeg) ≤ i_3 →
    ∃ (a7 : Nat) (fs8 : List JVal), r_0 = some a7 ∧ job H a7 3 fs8 ∧ /- X3_pulled -/ ∃ (x10 : Int32) (H9 : JHp), jok (jprog G) 224 [jR r_0, jI i_3, jI 0] H (.inl (some (jI x10))) H9 ∧
    (¬ x10 = i_1 →
      jwp (jprog G) 317 Rt 4 [some (jR r_0), some (jI i_1), some (jI (i_2 + (0 : Int32))), some (jI (i_3 + 1))] [] H9) ∧
    (¬ ¬ x10 = i_1 →
      jwp (jprog G) 317 Rt 4 [some (jR r_0), some (jI i_1), some (jI (i_2 + (1 : Int32))), some (jI (i_3 + 1))] [] H9))) :
  jwp (jprog G) 317 Rt 4 [some (jR r_0), some (jI i_1), some (jI i_2), some (jI i_3)] [] H :=
  junf_wp (jprog_nf G) (stop := jmem [4]) (pX3_waitingOf G) 4000 _ _ _ _ h
/-- UnheardBellsModel cancels(I)I @0 -/
theorem gX3_cancels_0 (G : JG) {Rt : JRt} (this : Option Nat) (i_1 : Int32) {H : JHp} (h :
  ∃ (a1 : Nat) (fs2 : List JVal), this = some a1 ∧ job H a1 3 fs2 ∧ /- X3_isRope -/ ∃ (x4 : Int32) (H3 : JHp), jok (jprog G) 223 [jR this, jI i_1] H (.inl (some (jI x4))) H3 ∧
  (¬ x4 = 0 →
    ∃ (a5 : Nat) (fs6 : List JVal), this = some a5 ∧ job H3 a5 3 fs6 ∧ /- X3_waitingOf -/ ∃ (x8 : Int32) (H7 : JHp), jok (jprog G) 317 [jR this, jI i_1] H3 (.inl (some (jI x8))) H7 ∧
    (¬ x8 = 0 →
      ∃ (a9 : Nat) (fs10 : List JVal) (r11 : Option Nat), this = some a9 ∧ job H7 a9 3 fs10 ∧ jn fs10 5 = some (jR r11) ∧
      ∃ (a12 n13 : Nat) (f14 : Nat → Int32), r11 = some a12 ∧ jar H7 a12 0 (aI n13 f14) ∧ vp_in (1 : Int32) n13 ∧
      jwp (jprog G) 318 Rt 48 [some (jR this), some (jI i_1), some (jI x8), some (jI ((f14 ((1 : Int32)).toNatClampNeg) - (1 : Int32)))] [] H7) ∧
    (¬ ¬ x8 = 0 →
      ∃ (a15 : Nat) (fs16 : List JVal) (r17 : Option Nat), this = some a15 ∧ job H7 a15 3 fs16 ∧ jn fs16 5 = some (jR r17) ∧
      ∃ (a18 n19 : Nat) (f20 : Nat → Int32), r17 = some a18 ∧ jar H7 a18 0 (aI n19 f20) ∧ vp_in (1 : Int32) n19 ∧
      ∃ (a21 : Nat) (fs22 : List JVal), this = some a21 ∧ job H7 a21 3 fs22 ∧ /- X3_refuses -/ ∃ (x24 : Int32) (H23 : JHp), jok (jprog G) 302 [jR this, jI 6, jI (f20 ((1 : Int32)).toNatClampNeg)] H7 (.inl (some (jI x24))) H23 ∧
      Rt (.inl (some (jI x24))) H23)) ∧
  (¬ ¬ x4 = 0 →
    ∃ (a25 : Nat) (fs26 : List JVal), this = some a25 ∧ job H3 a25 3 fs26 ∧ /- X3_fail -/ ∃ (x28 : Int32) (H27 : JHp), jok (jprog G) 300 [jR this, jI (-1011)] H3 (.inl (some (jI x28))) H27 ∧
    Rt (.inl (some (jI x28))) H27)) :
  jwp (jprog G) 318 Rt 0 [some (jR this), some (jI i_1), none, none] [] H :=
  junf_wp (jprog_nf G) (stop := jmem [48]) (pX3_cancels G) 4000 _ _ _ _ h
/-- UnheardBellsModel cancels(I)I @48 -/
theorem gX3_cancels_48 (G : JG) {Rt : JRt} (r_0 : Option Nat) (i_1 : Int32) (i_2 : Int32) (i_3 : Int32) {H : JHp} (h :
  (i_3 < 0 →
    ∃ (a1 : Nat) (fs2 : List JVal) (r3 : Option Nat), r_0 = some a1 ∧ job H a1 3 fs2 ∧ jn fs2 5 = some (jR r3) ∧
    ∃ (a4 n5 : Nat) (f6 : Nat → Int32), r3 = some a4 ∧ jar H a4 0 (aI n5 f6) ∧ vp_in (8 : Int32) n5 ∧
    ∃ (a7 n8 : Nat) (f9 : Nat → Int32), r3 = some a7 ∧ H.1 a7 = some (true, jA 0 (aI n8 f9)) ∧ vp_in (8 : Int32) n8 ∧ 
    ∃ (a10 : Nat) (fs11 : List JVal) (r12 : Option Nat), r_0 = some a10 ∧ job (jup H a7 (jA 0 (aI n8 (upd f9 ((8 : Int32)).toNatClampNeg ((f6 ((8 : Int32)).toNatClampNeg) + i_2))))) a10 3 fs11 ∧ jn fs11 5 = some (jR r12) ∧
    ∃ (a13 n14 : Nat) (f15 : Nat → Int32), r12 = some a13 ∧ jar (jup H a7 (jA 0 (aI n8 (upd f9 ((8 : Int32)).toNatClampNeg ((f6 ((8 : Int32)).toNatClampNeg) + i_2))))) a13 0 (aI n14 f15) ∧ vp_in (1 : Int32) n14 ∧
    Rt (.inl (some (jI (f15 ((1 : Int32)).toNatClampNeg)))) (jup H a7 (jA 0 (aI n8 (upd f9 ((8 : Int32)).toNatClampNeg ((f6 ((8 : Int32)).toNatClampNeg) + i_2)))))) ∧
  (¬ i_3 < 0 →
    ∃ (a16 : Nat) (fs17 : List JVal), r_0 = some a16 ∧ job H a16 3 fs17 ∧ /- X3_pulled -/ ∃ (x19 : Int32) (H18 : JHp), jok (jprog G) 224 [jR r_0, jI i_3, jI 0] H (.inl (some (jI x19))) H18 ∧
    (¬ x19 = i_1 →
      jwp (jprog G) 318 Rt 48 [some (jR r_0), some (jI i_1), some (jI i_2), some (jI (i_3 + (-1)))] [] H18) ∧
    (¬ ¬ x19 = i_1 →
      ∃ (a20 : Nat) (fs21 : List JVal), r_0 = some a20 ∧ job H18 a20 3 fs21 ∧ /- X3_goes -/ ∃ H22 : JHp, jok (jprog G) 310 [jR r_0, jI i_3] H18 (.inl none) H22 ∧
      jwp (jprog G) 318 Rt 48 [some (jR r_0), some (jI i_1), some (jI i_2), some (jI (i_3 + (-1)))] [] H22))) :
  jwp (jprog G) 318 Rt 48 [some (jR r_0), some (jI i_1), some (jI i_2), some (jI i_3)] [] H :=
  junf_wp (jprog_nf G) (stop := jmem [48]) (pX3_cancels G) 4000 _ _ _ _ h
/-- UnheardBellsModel does(IIII)I @0 -/
theorem gX3_does_0 (G : JG) {Rt : JRt} (this : Option Nat) (i_1 : Int32) (i_2 : Int32) (i_3 : Int32) (i_4 : Int32) {H : JHp} (h :
  (i_1 = 99 → ∃ (a1 : Nat) (fs2 : List JVal), this = some a1 ∧ job H a1 3 fs2 ∧ /- X3_cancels -/ ∃ (x4 : Int32) (H3 : JHp), jok (jprog G) 318 [jR this, jI i_2] H (.inl (some (jI x4))) H3 ∧
    Rt (.inl (some (jI x4))) H3) ∧
  (¬ i_1 = 99 → (i_1 = 100 → ∃ (a5 : Nat) (fs6 : List JVal), this = some a5 ∧ job H a5 3 fs6 ∧ /- X3_endsDay -/ ∃ (x8 : Int32) (H7 : JHp), jok (jprog G) 316 [jR this] H (.inl (some (jI x8))) H7 ∧
    Rt (.inl (some (jI x8))) H7) ∧
  (¬ i_1 = 100 → (i_1 = 101 → ∃ (a9 : Nat) (fs10 : List JVal), this = some a9 ∧ job H a9 3 fs10 ∧ /- X3_endsDay -/ ∃ (x12 : Int32) (H11 : JHp), jok (jprog G) 316 [jR this] H (.inl (some (jI x12))) H11 ∧
    Rt (.inl (some (jI x12))) H11) ∧
  (¬ i_1 = 101 → (i_1 = 102 → ∃ (a13 : Nat) (fs14 : List JVal), this = some a13 ∧ job H a13 3 fs14 ∧ /- X3_endsDay -/ ∃ (x16 : Int32) (H15 : JHp), jok (jprog G) 316 [jR this] H (.inl (some (jI x16))) H15 ∧
    Rt (.inl (some (jI x16))) H15) ∧
  (¬ i_1 = 102 → (i_1 = 103 → ∃ (a17 : Nat) (fs18 : List JVal), this = some a17 ∧ job H a17 3 fs18 ∧ /- X3_endsDay -/ ∃ (x20 : Int32) (H19 : JHp), jok (jprog G) 316 [jR this] H (.inl (some (jI x20))) H19 ∧
    Rt (.inl (some (jI x20))) H19) ∧
  (¬ i_1 = 103 → (i_1 = 104 → ∃ (a21 : Nat) (fs22 : List JVal), this = some a21 ∧ job H a21 3 fs22 ∧ /- X3_hours -/ ∃ (x24 : Int32) (H23 : JHp), jok (jprog G) 315 [jR this] H (.inl (some (jI x24))) H23 ∧
    Rt (.inl (some (jI x24))) H23) ∧
  (¬ i_1 = 104 → (i_1 = 105 → ∃ (a25 : Nat) (fs26 : List JVal), this = some a25 ∧ job H a25 3 fs26 ∧ /- X3_endsDay -/ ∃ (x28 : Int32) (H27 : JHp), jok (jprog G) 316 [jR this] H (.inl (some (jI x28))) H27 ∧
    Rt (.inl (some (jI x28))) H27) ∧
  (¬ i_1 = 105 → (i_1 = 106 → ∃ (a29 : Nat) (fs30 : List JVal), this = some a29 ∧ job H a29 3 fs30 ∧ /- X3_endsDay -/ ∃ (x32 : Int32) (H31 : JHp), jok (jprog G) 316 [jR this] H (.inl (some (jI x32))) H31 ∧
    Rt (.inl (some (jI x32))) H31) ∧
  (¬ i_1 = 106 → (i_1 = 107 → ∃ (a33 : Nat) (fs34 : List JVal), this = some a33 ∧ job H a33 3 fs34 ∧ /- X3_endsDay -/ ∃ (x36 : Int32) (H35 : JHp), jok (jprog G) 316 [jR this] H (.inl (some (jI x36))) H35 ∧
    Rt (.inl (some (jI x36))) H35) ∧
  (¬ i_1 = 107 → (i_1 = 108 → ∃ (a37 : Nat) (fs38 : List JVal), this = some a37 ∧ job H a37 3 fs38 ∧ /- X3_endsDay -/ ∃ (x40 : Int32) (H39 : JHp), jok (jprog G) 316 [jR this] H (.inl (some (jI x40))) H39 ∧
    Rt (.inl (some (jI x40))) H39) ∧
  (¬ i_1 = 108 → (i_1 = 109 → ∃ (a41 : Nat) (fs42 : List JVal), this = some a41 ∧ job H a41 3 fs42 ∧ /- X3_endsDay -/ ∃ (x44 : Int32) (H43 : JHp), jok (jprog G) 316 [jR this] H (.inl (some (jI x44))) H43 ∧
    Rt (.inl (some (jI x44))) H43) ∧
  (¬ i_1 = 109 → (i_1 = 110 → ∃ (a45 : Nat) (fs46 : List JVal), this = some a45 ∧ job H a45 3 fs46 ∧ /- X3_rings -/ ∃ (x48 : Int32) (H47 : JHp), jok (jprog G) 314 [jR this] H (.inl (some (jI x48))) H47 ∧
    Rt (.inl (some (jI x48))) H47) ∧
  (¬ i_1 = 110 → (i_1 = 111 → ∃ (a49 : Nat) (fs50 : List JVal), this = some a49 ∧ job H a49 3 fs50 ∧ /- X3_oils -/ ∃ (x52 : Int32) (H51 : JHp), jok (jprog G) 309 [jR this, jI i_2, jI i_3] H (.inl (some (jI x52))) H51 ∧
    Rt (.inl (some (jI x52))) H51) ∧
  (¬ i_1 = 111 → (i_1 = 112 → ∃ (a53 : Nat) (fs54 : List JVal), this = some a53 ∧ job H a53 3 fs54 ∧ /- X3_waits -/ ∃ (x56 : Int32) (H55 : JHp), jok (jprog G) 308 [jR this, jI i_2, jI i_3, jI i_4] H (.inl (some (jI x56))) H55 ∧
    Rt (.inl (some (jI x56))) H55) ∧
  (¬ i_1 = 112 → (i_1 = 113 → ∃ (a57 : Nat) (fs58 : List JVal), this = some a57 ∧ job H a57 3 fs58 ∧ /- X3_endsDay -/ ∃ (x60 : Int32) (H59 : JHp), jok (jprog G) 316 [jR this] H (.inl (some (jI x60))) H59 ∧
    Rt (.inl (some (jI x60))) H59) ∧
  (¬ i_1 = 113 → (i_1 = 114 → ∃ (a61 : Nat) (fs62 : List JVal), this = some a61 ∧ job H a61 3 fs62 ∧ /- X3_comes -/ ∃ (x64 : Int32) (H63 : JHp), jok (jprog G) 306 [jR this, jI i_2] H (.inl (some (jI x64))) H63 ∧
    Rt (.inl (some (jI x64))) H63) ∧
  (¬ i_1 = 114 → (i_1 = 115 → ∃ (a65 : Nat) (fs66 : List JVal), this = some a65 ∧ job H a65 3 fs66 ∧ /- X3_switches -/ ∃ (x68 : Int32) (H67 : JHp), jok (jprog G) 305 [jR this, jI i_2, jI i_3] H (.inl (some (jI x68))) H67 ∧
    Rt (.inl (some (jI x68))) H67) ∧
  (¬ i_1 = 115 → (i_1 = 116 → ∃ (a69 : Nat) (fs70 : List JVal), this = some a69 ∧ job H a69 3 fs70 ∧ /- X3_endsDay -/ ∃ (x72 : Int32) (H71 : JHp), jok (jprog G) 316 [jR this] H (.inl (some (jI x72))) H71 ∧
    Rt (.inl (some (jI x72))) H71) ∧
  (¬ i_1 = 116 → (i_1 = 117 → ∃ (a73 : Nat) (fs74 : List JVal), this = some a73 ∧ job H a73 3 fs74 ∧ /- X3_endsDay -/ ∃ (x76 : Int32) (H75 : JHp), jok (jprog G) 316 [jR this] H (.inl (some (jI x76))) H75 ∧
    Rt (.inl (some (jI x76))) H75) ∧
  (¬ i_1 = 117 → (i_1 = 118 → ∃ (a77 : Nat) (fs78 : List JVal), this = some a77 ∧ job H a77 3 fs78 ∧ /- X3_moves -/ ∃ (x80 : Int32) (H79 : JHp), jok (jprog G) 304 [jR this, jI i_2, jI i_3] H (.inl (some (jI x80))) H79 ∧
    Rt (.inl (some (jI x80))) H79) ∧
  (¬ i_1 = 118 → ∃ (a81 : Nat) (fs82 : List JVal), this = some a81 ∧ job H a81 3 fs82 ∧ /- X3_endsDay -/ ∃ (x84 : Int32) (H83 : JHp), jok (jprog G) 316 [jR this] H (.inl (some (jI x84))) H83 ∧
    Rt (.inl (some (jI x84))) H83))))))))))))))))))))) :
  jwp (jprog G) 319 Rt 0 [some (jR this), some (jI i_1), some (jI i_2), some (jI i_3), some (jI i_4)] [] H :=
  junf_wp (jprog_nf G) (stop := jmem []) (pX3_does G) 4000 _ _ _ _ h
/-- UnheardBellsModel order()V @0 -/
theorem gX3_order_0 (G : JG) {Rt : JRt} (this : Option Nat) {H : JHp} (h :
  ∃ (a1 : Nat) (fs2 : List JVal), this = some a1 ∧ job H a1 3 fs2 ∧ /- X3_sign -/ ∃ (x4 : Int32) (H3 : JHp), jok (jprog G) 294 [jR this] H (.inl (some (jI x4))) H3 ∧
  /- X3_isKnown -/ ∃ (x6 : Int32) (H5 : JHp), jok (jprog G) 295 [jI x4] H3 (.inl (some (jI x6))) H5 ∧
  (¬ x6 = 0 →
    jwp (jprog G) 320 Rt 25 [some (jR this), some (jI x4), some (jI 0), some (jI 0), some (jI 0), none, none] [jI 0, jR this] H5) ∧
  (¬ ¬ x6 = 0 →
    jwp (jprog G) 320 Rt 25 [some (jR this), some (jI x4), some (jI 0), some (jI 0), some (jI 0), none, none] [jI 1, jR this] H5)) :
  jwp (jprog G) 320 Rt 0 [some (jR this), none, none, none, none, none, none] [] H :=
  junf_wp (jprog_nf G) (stop := jmem [25, 69, 106, 131, 160]) (pX3_order G) 4000 _ _ _ _ h
/-- UnheardBellsModel order()V @25 -/
theorem gX3_order_25 (G : JG) {Rt : JRt} (r_0 : Option Nat) (i_1 : Int32) (i_2 : Int32) (i_3 : Int32) (i_4 : Int32) (q_5 : Option JVal) (q_6 : Option JVal) (sr_0 : Option Nat) (si_1 : Int32) {H : JHp} (h :
  jbool si_1 ∧ ∃ (a1 : Nat) (fs2 : List JVal) (v3 : JVal), sr_0 = some a1 ∧ H.1 a1 = some (true, jO 3 fs2) ∧ jn fs2 16 = some v3 ∧
  ∃ (a4 : Nat) (fs5 : List JVal) (x6 : Int32), r_0 = some a4 ∧ job (jup H a1 (jO 3 (jset fs2 16 (jI si_1)))) a4 3 fs5 ∧ jn fs5 16 = some (jI x6) ∧
  (x6 = 0 →
    ∃ (a7 : Nat) (fs8 : List JVal) (x9 : Int32), r_0 = some a7 ∧ job (jup H a1 (jO 3 (jset fs2 16 (jI si_1)))) a7 3 fs8 ∧ jn fs8 13 = some (jI x9) ∧
    ∃ (a10 : Nat) (fs11 : List JVal) (v12 : JVal), r_0 = some a10 ∧ (jup H a1 (jO 3 (jset fs2 16 (jI si_1)))).1 a10 = some (true, jO 3 fs11) ∧ jn fs11 13 = some v12 ∧
    (i_1 = (110 : Int32) →
      jwp (jprog G) 320 Rt 69 [some (jR r_0), some (jI i_1), some (jI i_2), some (jI i_3), some (jI i_4), q_5, q_6] [jI 1] (jup (jup H a1 (jO 3 (jset fs2 16 (jI si_1)))) a10 (jO 3 (jset fs11 13 (jI (x9 + (1 : Int32))))))) ∧
    (¬ i_1 = (110 : Int32) →
      (i_1 = (104 : Int32) →
        jwp (jprog G) 320 Rt 69 [some (jR r_0), some (jI i_1), some (jI i_2), some (jI i_3), some (jI i_4), q_5, q_6] [jI 1] (jup (jup H a1 (jO 3 (jset fs2 16 (jI si_1)))) a10 (jO 3 (jset fs11 13 (jI (x9 + (1 : Int32))))))) ∧
      (¬ i_1 = (104 : Int32) →
        (¬ i_1 = (101 : Int32) →
          jwp (jprog G) 320 Rt 69 [some (jR r_0), some (jI i_1), some (jI i_2), some (jI i_3), some (jI i_4), q_5, q_6] [jI 0] (jup (jup H a1 (jO 3 (jset fs2 16 (jI si_1)))) a10 (jO 3 (jset fs11 13 (jI (x9 + (1 : Int32))))))) ∧
        (¬ ¬ i_1 = (101 : Int32) →
          jwp (jprog G) 320 Rt 69 [some (jR r_0), some (jI i_1), some (jI i_2), some (jI i_3), some (jI i_4), q_5, q_6] [jI 1] (jup (jup H a1 (jO 3 (jset fs2 16 (jI si_1)))) a10 (jO 3 (jset fs11 13 (jI (x9 + (1 : Int32)))))))))) ∧
  (¬ x6 = 0 →
    Rt (.inl none) (jup H a1 (jO 3 (jset fs2 16 (jI si_1)))))) :
  jwp (jprog G) 320 Rt 25 [some (jR r_0), some (jI i_1), some (jI i_2), some (jI i_3), some (jI i_4), q_5, q_6] [jI si_1, jR sr_0] H :=
  junf_wp (jprog_nf G) (stop := jmem [25, 69, 106, 131, 160]) (pX3_order G) 4000 _ _ _ _ h
/-- UnheardBellsModel order()V @69 -/
theorem gX3_order_69 (G : JG) {Rt : JRt} (r_0 : Option Nat) (i_1 : Int32) (i_2 : Int32) (i_3 : Int32) (i_4 : Int32) (q_5 : Option JVal) (q_6 : Option JVal) (si_0 : Int32) {H : JHp} (h :
  (¬ si_0 = 0 →
    (¬ i_1 = (118 : Int32) →
      jwp (jprog G) 320 Rt 106 [some (jR r_0), some (jI i_1), some (jI i_2), some (jI i_3), some (jI i_4), some (jI si_0), q_6] [] H) ∧
    (¬ ¬ i_1 = (118 : Int32) →
      ∃ (a1 : Nat) (fs2 : List JVal), r_0 = some a1 ∧ job H a1 3 fs2 ∧ /- X3_behind -/ ∃ (x4 : Int32) (H3 : JHp), jok (jprog G) 298 [jR r_0, jI 58, jI 1] H (.inl (some (jI x4))) H3 ∧
      jwp (jprog G) 320 Rt 106 [some (jR r_0), some (jI i_1), some (jI i_2), some (jI x4), some (jI i_4), some (jI si_0), q_6] [] H3)) ∧
  (¬ ¬ si_0 = 0 →
    (¬ i_1 = (114 : Int32) →
      ∃ (a5 : Nat) (fs6 : List JVal), r_0 = some a5 ∧ job H a5 3 fs6 ∧ /- X3_digits -/ ∃ (x8 : Int32) (H7 : JHp), jok (jprog G) 296 [jR r_0, jI 2] H (.inl (some (jI x8))) H7 ∧
      (¬ i_1 = (118 : Int32) →
        jwp (jprog G) 320 Rt 106 [some (jR r_0), some (jI i_1), some (jI x8), some (jI i_3), some (jI i_4), some (jI si_0), q_6] [] H7) ∧
      (¬ ¬ i_1 = (118 : Int32) →
        ∃ (a9 : Nat) (fs10 : List JVal), r_0 = some a9 ∧ job H7 a9 3 fs10 ∧ /- X3_behind -/ ∃ (x12 : Int32) (H11 : JHp), jok (jprog G) 298 [jR r_0, jI 58, jI 1] H7 (.inl (some (jI x12))) H11 ∧
        jwp (jprog G) 320 Rt 106 [some (jR r_0), some (jI i_1), some (jI x8), some (jI x12), some (jI i_4), some (jI si_0), q_6] [] H11)) ∧
    (¬ ¬ i_1 = (114 : Int32) →
      ∃ (a13 : Nat) (fs14 : List JVal), r_0 = some a13 ∧ job H a13 3 fs14 ∧ /- X3_digits -/ ∃ (x16 : Int32) (H15 : JHp), jok (jprog G) 296 [jR r_0, jI 1] H (.inl (some (jI x16))) H15 ∧
      (¬ i_1 = (118 : Int32) →
        jwp (jprog G) 320 Rt 106 [some (jR r_0), some (jI i_1), some (jI x16), some (jI i_3), some (jI i_4), some (jI si_0), q_6] [] H15) ∧
      (¬ ¬ i_1 = (118 : Int32) →
        ∃ (a17 : Nat) (fs18 : List JVal), r_0 = some a17 ∧ job H15 a17 3 fs18 ∧ /- X3_behind -/ ∃ (x20 : Int32) (H19 : JHp), jok (jprog G) 298 [jR r_0, jI 58, jI 1] H15 (.inl (some (jI x20))) H19 ∧
        jwp (jprog G) 320 Rt 106 [some (jR r_0), some (jI i_1), some (jI x16), some (jI x20), some (jI i_4), some (jI si_0), q_6] [] H19)))) :
  jwp (jprog G) 320 Rt 69 [some (jR r_0), some (jI i_1), some (jI i_2), some (jI i_3), some (jI i_4), q_5, q_6] [jI si_0] H :=
  junf_wp (jprog_nf G) (stop := jmem [25, 69, 106, 131, 160]) (pX3_order G) 4000 _ _ _ _ h
/-- UnheardBellsModel order()V @106 -/
theorem gX3_order_106 (G : JG) {Rt : JRt} (r_0 : Option Nat) (i_1 : Int32) (i_2 : Int32) (i_3 : Int32) (i_4 : Int32) (q_5 : Option JVal) (q_6 : Option JVal) {H : JHp} (h :
  (¬ i_1 = (115 : Int32) →
    (¬ i_1 = (112 : Int32) →
      jwp (jprog G) 320 Rt 131 [some (jR r_0), some (jI i_1), some (jI i_2), some (jI i_3), some (jI i_4), q_5, q_6] [] H) ∧
    (¬ ¬ i_1 = (112 : Int32) →
      ∃ (a1 : Nat) (fs2 : List JVal), r_0 = some a1 ∧ job H a1 3 fs2 ∧ /- X3_behind -/ ∃ (x4 : Int32) (H3 : JHp), jok (jprog G) 298 [jR r_0, jI 64, jI 2] H (.inl (some (jI x4))) H3 ∧
      jwp (jprog G) 320 Rt 131 [some (jR r_0), some (jI i_1), some (jI i_2), some (jI x4), some (jI i_4), q_5, q_6] [] H3)) ∧
  (¬ ¬ i_1 = (115 : Int32) →
    ∃ (a5 : Nat) (fs6 : List JVal), r_0 = some a5 ∧ job H a5 3 fs6 ∧ /- X3_plus -/ ∃ (x8 : Int32) (H7 : JHp), jok (jprog G) 299 [jR r_0] H (.inl (some (jI x8))) H7 ∧
    (¬ i_1 = (112 : Int32) →
      jwp (jprog G) 320 Rt 131 [some (jR r_0), some (jI i_1), some (jI i_2), some (jI x8), some (jI i_4), q_5, q_6] [] H7) ∧
    (¬ ¬ i_1 = (112 : Int32) →
      ∃ (a9 : Nat) (fs10 : List JVal), r_0 = some a9 ∧ job H7 a9 3 fs10 ∧ /- X3_behind -/ ∃ (x12 : Int32) (H11 : JHp), jok (jprog G) 298 [jR r_0, jI 64, jI 2] H7 (.inl (some (jI x12))) H11 ∧
      jwp (jprog G) 320 Rt 131 [some (jR r_0), some (jI i_1), some (jI i_2), some (jI x12), some (jI i_4), q_5, q_6] [] H11))) :
  jwp (jprog G) 320 Rt 106 [some (jR r_0), some (jI i_1), some (jI i_2), some (jI i_3), some (jI i_4), q_5, q_6] [] H :=
  junf_wp (jprog_nf G) (stop := jmem [25, 69, 106, 131, 160]) (pX3_order G) 4000 _ _ _ _ h
/-- UnheardBellsModel order()V @131 -/
theorem gX3_order_131 (G : JG) {Rt : JRt} (r_0 : Option Nat) (i_1 : Int32) (i_2 : Int32) (i_3 : Int32) (i_4 : Int32) (q_5 : Option JVal) (q_6 : Option JVal) {H : JHp} (h :
  (¬ i_1 = (112 : Int32) →
    (¬ i_1 = (111 : Int32) →
      jwp (jprog G) 320 Rt 160 [some (jR r_0), some (jI i_1), some (jI i_2), some (jI i_3), some (jI i_4), q_5, q_6] [] H) ∧
    (¬ ¬ i_1 = (111 : Int32) →
      ∃ (a1 : Nat) (fs2 : List JVal), r_0 = some a1 ∧ job H a1 3 fs2 ∧ /- X3_behind -/ ∃ (x4 : Int32) (H3 : JHp), jok (jprog G) 298 [jR r_0, jI 45, jI 1] H (.inl (some (jI x4))) H3 ∧
      jwp (jprog G) 320 Rt 160 [some (jR r_0), some (jI i_1), some (jI i_2), some (jI x4), some (jI i_4), q_5, q_6] [] H3)) ∧
  (¬ ¬ i_1 = (112 : Int32) →
    ∃ (a5 : Nat) (fs6 : List JVal), r_0 = some a5 ∧ job H a5 3 fs6 ∧ /- X3_behind -/ ∃ (x8 : Int32) (H7 : JHp), jok (jprog G) 298 [jR r_0, jI 42, jI 1] H (.inl (some (jI x8))) H7 ∧
    (¬ i_1 = (111 : Int32) →
      jwp (jprog G) 320 Rt 160 [some (jR r_0), some (jI i_1), some (jI i_2), some (jI i_3), some (jI x8), q_5, q_6] [] H7) ∧
    (¬ ¬ i_1 = (111 : Int32) →
      ∃ (a9 : Nat) (fs10 : List JVal), r_0 = some a9 ∧ job H7 a9 3 fs10 ∧ /- X3_behind -/ ∃ (x12 : Int32) (H11 : JHp), jok (jprog G) 298 [jR r_0, jI 45, jI 1] H7 (.inl (some (jI x12))) H11 ∧
      jwp (jprog G) 320 Rt 160 [some (jR r_0), some (jI i_1), some (jI i_2), some (jI x12), some (jI x8), q_5, q_6] [] H11))) :
  jwp (jprog G) 320 Rt 131 [some (jR r_0), some (jI i_1), some (jI i_2), some (jI i_3), some (jI i_4), q_5, q_6] [] H :=
  junf_wp (jprog_nf G) (stop := jmem [25, 69, 106, 131, 160]) (pX3_order G) 4000 _ _ _ _ h
/-- UnheardBellsModel order()V @160 -/
theorem gX3_order_160 (G : JG) {Rt : JRt} (r_0 : Option Nat) (i_1 : Int32) (i_2 : Int32) (i_3 : Int32) (i_4 : Int32) (q_5 : Option JVal) (q_6 : Option JVal) {H : JHp} (h :
  ∃ (a1 : Nat) (fs2 : List JVal) (x3 : Int32), r_0 = some a1 ∧ job H a1 3 fs2 ∧ jn fs2 16 = some (jI x3) ∧
  (¬ x3 = 0 →
    Rt (.inl none) H) ∧
  (¬ ¬ x3 = 0 →
    ∃ (a4 : Nat) (fs5 : List JVal) (x6 : Int32), r_0 = some a4 ∧ job H a4 3 fs5 ∧ jn fs5 17 = some (jI x6) ∧
    (¬ x6 = 0 →
      ∃ (a7 : Nat) (fs8 : List JVal), r_0 = some a7 ∧ job H a7 3 fs8 ∧ /- X3_does -/ ∃ (x10 : Int32) (H9 : JHp), jok (jprog G) 319 [jR r_0, jI i_1, jI i_2, jI i_3, jI i_4] H (.inl (some (jI x10))) H9 ∧
      Rt (.inl none) H9) ∧
    (¬ ¬ x6 = 0 →
      Rt (.inl none) H))) :
  jwp (jprog G) 320 Rt 160 [some (jR r_0), some (jI i_1), some (jI i_2), some (jI i_3), some (jI i_4), q_5, q_6] [] H :=
  junf_wp (jprog_nf G) (stop := jmem [25, 69, 106, 131, 160]) (pX3_order G) 4000 _ _ _ _ h
/-- UnheardBellsModel orders()I @0 -/
theorem gX3_orders_0 (G : JG) {Rt : JRt} (this : Option Nat) {H : JHp} (h :
  ∃ (a1 : Nat) (fs2 : List JVal) (v3 : JVal), this = some a1 ∧ H.1 a1 = some (true, jO 3 fs2) ∧ jn fs2 13 = some v3 ∧
  jbool (0 : Int32) ∧ ∃ (a4 : Nat) (fs5 : List JVal) (v6 : JVal), this = some a4 ∧ (jup H a1 (jO 3 (jset fs2 13 (jI 0)))).1 a4 = some (true, jO 3 fs5) ∧ jn fs5 16 = some v6 ∧
  ∃ (a7 : Nat) (fs8 : List JVal), this = some a7 ∧ job (jup (jup H a1 (jO 3 (jset fs2 13 (jI 0)))) a4 (jO 3 (jset fs5 16 (jI 0)))) a7 3 fs8 ∧ /- X3_order -/ ∃ H9 : JHp, jok (jprog G) 320 [jR this] (jup (jup H a1 (jO 3 (jset fs2 13 (jI 0)))) a4 (jO 3 (jset fs5 16 (jI 0)))) (.inl none) H9 ∧
  jwp (jprog G) 321 Rt 16 [some (jR this), some (jI 1)] [] H9) :
  jwp (jprog G) 321 Rt 0 [some (jR this), none] [] H :=
  junf_wp (jprog_nf G) (stop := jmem [16]) (pX3_orders G) 4000 _ _ _ _ h
/-- UnheardBellsModel orders()I @16 -/
theorem gX3_orders_16 (G : JG) {Rt : JRt} (r_0 : Option Nat) (i_1 : Int32) {H : JHp} (h :
  ∃ (a1 : Nat) (fs2 : List JVal) (x3 : Int32), r_0 = some a1 ∧ job H a1 3 fs2 ∧ jn fs2 16 = some (jI x3) ∧
  (¬ x3 = 0 →
    Rt (.inl (some (jI i_1))) H) ∧
  (¬ ¬ x3 = 0 →
    ∃ (a4 : Nat) (fs5 : List JVal) (x6 : Int32), r_0 = some a4 ∧ job H a4 3 fs5 ∧ jn fs5 0 = some (jI x6) ∧
    (¬ x6 = 0 →
      Rt (.inl (some (jI i_1))) H) ∧
    (¬ ¬ x6 = 0 →
      ∃ (a7 : Nat) (fs8 : List JVal) (x9 : Int32), r_0 = some a7 ∧ job H a7 3 fs8 ∧ jn fs8 13 = some (jI x9) ∧
      ∃ (a10 : Nat) (fs11 : List JVal) (x12 : Int32), r_0 = some a10 ∧ job H a10 3 fs11 ∧ jn fs11 14 = some (jI x12) ∧
      (x12 ≤ x9 →
        Rt (.inl (some (jI i_1))) H) ∧
      (¬ x12 ≤ x9 →
        ∃ (a13 : Nat) (fs14 : List JVal), r_0 = some a13 ∧ job H a13 3 fs14 ∧ /- X3_mark -/ ∃ H15 : JHp, jok (jprog G) 297 [jR r_0, jI 59] H (.inl none) H15 ∧
        ∃ (a16 : Nat) (fs17 : List JVal) (x18 : Int32), r_0 = some a16 ∧ job H15 a16 3 fs17 ∧ jn fs17 16 = some (jI x18) ∧
        (¬ x18 = 0 →
          jwp (jprog G) 321 Rt 16 [some (jR r_0), some (jI (i_1 + 1))] [] H15) ∧
        (¬ ¬ x18 = 0 →
          ∃ (a19 : Nat) (fs20 : List JVal), r_0 = some a19 ∧ job H15 a19 3 fs20 ∧ /- X3_order -/ ∃ H21 : JHp, jok (jprog G) 320 [jR r_0] H15 (.inl none) H21 ∧
          jwp (jprog G) 321 Rt 16 [some (jR r_0), some (jI (i_1 + 1))] [] H21))))) :
  jwp (jprog G) 321 Rt 16 [some (jR r_0), some (jI i_1)] [] H :=
  junf_wp (jprog_nf G) (stop := jmem [16]) (pX3_orders G) 4000 _ _ _ _ h
/-- UnheardBellsModel ends(I)I @0 -/
theorem gX3_ends_0 (G : JG) {Rt : JRt} (this : Option Nat) (i_1 : Int32) {H : JHp} (h :
  ∃ (a1 : Nat) (fs2 : List JVal) (x3 : Int32), this = some a1 ∧ job H a1 3 fs2 ∧ jn fs2 0 = some (jI x3) ∧
  (x3 = 0 →
    ∃ (a4 : Nat) (fs5 : List JVal) (x6 : Int32), this = some a4 ∧ job H a4 3 fs5 ∧ jn fs5 1 = some (jI x6) ∧
    (¬ x6 = (8 : Int32) →
      jwp (jprog G) 322 Rt 75 [some (jR this), some (jI i_1), some (jI 0)] [] H) ∧
    (¬ ¬ x6 = (8 : Int32) →
      jwp (jprog G) 322 Rt 34 [some (jR this), some (jI i_1), some (jI 0)] [] H)) ∧
  (¬ x3 = 0 →
    ∃ (a7 : Nat) (fs8 : List JVal) (r9 : Option Nat), this = some a7 ∧ job H a7 3 fs8 ∧ jn fs8 5 = some (jR r9) ∧
    ∃ (a10 : Nat) (fs11 : List JVal) (r12 : Option Nat), this = some a10 ∧ job H a10 3 fs11 ∧ jn fs11 6 = some (jR r12) ∧
    /- X3_lays -/ ∃ H13 : JHp, jok (jprog G) 106 [jR r9, jR r12] H (.inl none) H13 ∧
    ∃ (a14 : Nat) (fs15 : List JVal) (x16 : Int32), this = some a14 ∧ job H13 a14 3 fs15 ∧ jn fs15 0 = some (jI x16) ∧
    Rt (.inl (some (jI x16))) H13)) :
  jwp (jprog G) 322 Rt 0 [some (jR this), some (jI i_1), none] [] H :=
  junf_wp (jprog_nf G) (stop := jmem [34, 75]) (pX3_ends G) 4000 _ _ _ _ h
/-- UnheardBellsModel ends(I)I @34 -/
theorem gX3_ends_34 (G : JG) {Rt : JRt} (r_0 : Option Nat) (i_1 : Int32) (i_2 : Int32) {H : JHp} (h :
  ((1645 : Int32) ≤ i_2 →
    ∃ (a1 : Nat) (fs2 : List JVal) (x3 : Int32), r_0 = some a1 ∧ job H a1 3 fs2 ∧ jn fs2 1 = some (jI x3) ∧
    ∃ (a4 : Nat) (fs5 : List JVal) (v6 : JVal), r_0 = some a4 ∧ H.1 a4 = some (true, jO 3 fs5) ∧ jn fs5 1 = some v6 ∧
    jwp (jprog G) 322 Rt 75 [some (jR r_0), some (jI i_1), some (jI 0)] [] (jup H a4 (jO 3 (jset fs5 1 (jI (x3 - (1 : Int32))))))) ∧
  (¬ (1645 : Int32) ≤ i_2 →
    ∃ (a7 : Nat) (fs8 : List JVal) (r9 : Option Nat), r_0 = some a7 ∧ job H a7 3 fs8 ∧ jn fs8 9 = some (jR r9) ∧
    ∃ (a10 : Nat) (fs11 : List JVal) (r12 : Option Nat), r_0 = some a10 ∧ job H a10 3 fs11 ∧ jn fs11 9 = some (jR r12) ∧
    ∃ (a13 n14 : Nat) (f15 : Nat → Int32), r12 = some a13 ∧ jar H a13 0 (aI n14 f15) ∧ vp_in (i_2 + (235 : Int32)) n14 ∧
    ∃ (a16 n17 : Nat) (f18 : Nat → Int32), r9 = some a16 ∧ H.1 a16 = some (true, jA 0 (aI n17 f18)) ∧ vp_in i_2 n17 ∧ 
    jwp (jprog G) 322 Rt 34 [some (jR r_0), some (jI i_1), some (jI (i_2 + 1))] [] (jup H a16 (jA 0 (aI n17 (upd f18 (i_2).toNatClampNeg (f15 ((i_2 + (235 : Int32))).toNatClampNeg))))))) :
  jwp (jprog G) 322 Rt 34 [some (jR r_0), some (jI i_1), some (jI i_2)] [] H :=
  junf_wp (jprog_nf G) (stop := jmem [34, 75]) (pX3_ends G) 4000 _ _ _ _ h
/-- UnheardBellsModel ends(I)I @75 -/
theorem gX3_ends_75 (G : JG) {Rt : JRt} (r_0 : Option Nat) (i_1 : Int32) (i_2 : Int32) {H : JHp} (h :
  ((235 : Int32) ≤ i_2 →
    ∃ (a1 : Nat) (fs2 : List JVal) (x3 : Int32), r_0 = some a1 ∧ job H a1 3 fs2 ∧ jn fs2 1 = some (jI x3) ∧
    ∃ (a4 : Nat) (fs5 : List JVal) (v6 : JVal), r_0 = some a4 ∧ H.1 a4 = some (true, jO 3 fs5) ∧ jn fs5 1 = some v6 ∧
    Rt (.inl (some (jI i_1))) (jup H a4 (jO 3 (jset fs5 1 (jI (x3 + (1 : Int32))))))) ∧
  (¬ (235 : Int32) ≤ i_2 →
    ∃ (a7 : Nat) (fs8 : List JVal) (r9 : Option Nat), r_0 = some a7 ∧ job H a7 3 fs8 ∧ jn fs8 9 = some (jR r9) ∧
    ∃ (a10 : Nat) (fs11 : List JVal) (x12 : Int32), r_0 = some a10 ∧ job H a10 3 fs11 ∧ jn fs11 1 = some (jI x12) ∧
    ∃ (a13 : Nat) (fs14 : List JVal) (r15 : Option Nat), r_0 = some a13 ∧ job H a13 3 fs14 ∧ jn fs14 6 = some (jR r15) ∧
    ∃ (a16 n17 : Nat) (f18 : Nat → Int32), r15 = some a16 ∧ jar H a16 0 (aI n17 f18) ∧ vp_in i_2 n17 ∧
    ∃ (a19 n20 : Nat) (f21 : Nat → Int32), r9 = some a19 ∧ H.1 a19 = some (true, jA 0 (aI n20 f21)) ∧ vp_in ((x12 * (235 : Int32)) + i_2) n20 ∧ 
    jwp (jprog G) 322 Rt 75 [some (jR r_0), some (jI i_1), some (jI (i_2 + 1))] [] (jup H a19 (jA 0 (aI n20 (upd f21 (((x12 * (235 : Int32)) + i_2)).toNatClampNeg (f18 (i_2).toNatClampNeg))))))) :
  jwp (jprog G) 322 Rt 75 [some (jR r_0), some (jI i_1), some (jI i_2)] [] H :=
  junf_wp (jprog_nf G) (stop := jmem [34, 75]) (pX3_ends G) 4000 _ _ _ _ h
/-- UnheardBellsModel run()I @0 -/
theorem gX3_run_0 (G : JG) {Rt : JRt} (this : Option Nat) {H : JHp} (h :
  ∃ (a1 : Nat) (fs2 : List JVal), this = some a1 ∧ job H a1 3 fs2 ∧ /- X3_begins -/ ∃ H3 : JHp, jok (jprog G) 293 [jR this] H (.inl none) H3 ∧
  ∃ (a4 : Nat) (fs5 : List JVal) (x6 : Int32), this = some a4 ∧ job H3 a4 3 fs5 ∧ jn fs5 12 = some (jI x6) ∧
  ∃ (a7 : Nat) (fs8 : List JVal) (v9 : JVal), this = some a7 ∧ H3.1 a7 = some (true, jO 3 fs8) ∧ jn fs8 14 = some v9 ∧
  ∃ (a10 : Nat) (fs11 : List JVal) (v12 : JVal), this = some a10 ∧ (jup H3 a7 (jO 3 (jset fs8 14 (jI x6)))).1 a10 = some (true, jO 3 fs11) ∧ jn fs11 12 = some v12 ∧
  jbool (0 : Int32) ∧ ∃ (a13 : Nat) (fs14 : List JVal) (v15 : JVal), this = some a13 ∧ (jup (jup H3 a7 (jO 3 (jset fs8 14 (jI x6)))) a10 (jO 3 (jset fs11 12 (jI 0)))).1 a13 = some (true, jO 3 fs14) ∧ jn fs14 17 = some v15 ∧
  ∃ (a16 : Nat) (fs17 : List JVal), this = some a16 ∧ job (jup (jup (jup H3 a7 (jO 3 (jset fs8 14 (jI x6)))) a10 (jO 3 (jset fs11 12 (jI 0)))) a13 (jO 3 (jset fs14 17 (jI 0)))) a16 3 fs17 ∧ /- X3_orders -/ ∃ (x19 : Int32) (H18 : JHp), jok (jprog G) 321 [jR this] (jup (jup (jup H3 a7 (jO 3 (jset fs8 14 (jI x6)))) a10 (jO 3 (jset fs11 12 (jI 0)))) a13 (jO 3 (jset fs14 17 (jI 0)))) (.inl (some (jI x19))) H18 ∧
  ∃ (a20 : Nat) (fs21 : List JVal) (x22 : Int32), this = some a20 ∧ job H18 a20 3 fs21 ∧ jn fs21 16 = some (jI x22) ∧
  (x22 = 0 →
    jbool (1 : Int32) ∧ ∃ (a23 : Nat) (fs24 : List JVal) (v25 : JVal), this = some a23 ∧ H18.1 a23 = some (true, jO 3 fs24) ∧ jn fs24 17 = some v25 ∧
    ∃ (a26 : Nat) (fs27 : List JVal), this = some a26 ∧ job (jup H18 a23 (jO 3 (jset fs24 17 (jI 1)))) a26 3 fs27 ∧ /- X3_orders -/ ∃ (x29 : Int32) (H28 : JHp), jok (jprog G) 321 [jR this] (jup H18 a23 (jO 3 (jset fs24 17 (jI 1)))) (.inl (some (jI x29))) H28 ∧
    ∃ (a30 : Nat) (fs31 : List JVal) (x32 : Int32), this = some a30 ∧ job H28 a30 3 fs31 ∧ jn fs31 0 = some (jI x32) ∧
    (¬ x32 = 0 →
      ∃ (a33 : Nat) (fs34 : List JVal), this = some a33 ∧ job H28 a33 3 fs34 ∧ /- X3_refuses -/ ∃ (x36 : Int32) (H35 : JHp), jok (jprog G) 302 [jR this, jI 7, jI (x29 - (1 : Int32))] H28 (.inl (some (jI x36))) H35 ∧
      ∃ (a37 : Nat) (fs38 : List JVal), this = some a37 ∧ job H35 a37 3 fs38 ∧ /- X3_ends -/ ∃ (x40 : Int32) (H39 : JHp), jok (jprog G) 322 [jR this, jI x36] H35 (.inl (some (jI x40))) H39 ∧
      Rt (.inl (some (jI x40))) H39) ∧
    (¬ ¬ x32 = 0 →
      ∃ (a41 : Nat) (fs42 : List JVal), this = some a41 ∧ job H28 a41 3 fs42 ∧ /- X3_ends -/ ∃ (x44 : Int32) (H43 : JHp), jok (jprog G) 322 [jR this, jI x29] H28 (.inl (some (jI x44))) H43 ∧
      Rt (.inl (some (jI x44))) H43)) ∧
  (¬ x22 = 0 →
    ∃ (a45 : Nat) (fs46 : List JVal) (x47 : Int32), this = some a45 ∧ job H18 a45 3 fs46 ∧ jn fs46 13 = some (jI x47) ∧
    Rt (.inl (some (jI ((-2000 : Int32) - x47)))) H18)) :
  jwp (jprog G) 323 Rt 0 [some (jR this), none] [] H :=
  junf_wp (jprog_nf G) (stop := jmem []) (pX3_run G) 4000 _ _ _ _ h
/-- UnheardBellsModel append(I)I @0 -/
theorem gX3_append_0 (G : JG) {Rt : JRt} (this : Option Nat) (i_1 : Int32) {H : JHp} (h :
  /- X3_isIn -/ ∃ (x2 : Int32) (H1 : JHp), jok (jprog G) 178 [jI i_1, jI 32, jI 126] H (.inl (some (jI x2))) H1 ∧
  (¬ x2 = 0 →
    ∃ (a3 : Nat) (fs4 : List JVal) (x5 : Int32), this = some a3 ∧ job H1 a3 3 fs4 ∧ jn fs4 12 = some (jI x5) ∧
    (¬ x5 = (60 : Int32) →
      ∃ (a6 : Nat) (fs7 : List JVal) (r8 : Option Nat), this = some a6 ∧ job H1 a6 3 fs7 ∧ jn fs7 10 = some (jR r8) ∧
      ∃ (a9 : Nat) (fs10 : List JVal) (x11 : Int32), this = some a9 ∧ job H1 a9 3 fs10 ∧ jn fs10 12 = some (jI x11) ∧
      ∃ (a12 n13 : Nat) (f14 : Nat → Int32), r8 = some a12 ∧ H1.1 a12 = some (true, jA 0 (aI n13 f14)) ∧ vp_in x11 n13 ∧ 
      ∃ (a15 : Nat) (fs16 : List JVal) (x17 : Int32), this = some a15 ∧ job (jup H1 a12 (jA 0 (aI n13 (upd f14 (x11).toNatClampNeg i_1)))) a15 3 fs16 ∧ jn fs16 12 = some (jI x17) ∧
      ∃ (a18 : Nat) (fs19 : List JVal) (v20 : JVal), this = some a18 ∧ (jup H1 a12 (jA 0 (aI n13 (upd f14 (x11).toNatClampNeg i_1)))).1 a18 = some (true, jO 3 fs19) ∧ jn fs19 12 = some v20 ∧
      ∃ (a21 : Nat) (fs22 : List JVal) (x23 : Int32), this = some a21 ∧ job (jup (jup H1 a12 (jA 0 (aI n13 (upd f14 (x11).toNatClampNeg i_1)))) a18 (jO 3 (jset fs19 12 (jI (x17 + (1 : Int32)))))) a21 3 fs22 ∧ jn fs22 12 = some (jI x23) ∧
      Rt (.inl (some (jI x23))) (jup (jup H1 a12 (jA 0 (aI n13 (upd f14 (x11).toNatClampNeg i_1)))) a18 (jO 3 (jset fs19 12 (jI (x17 + (1 : Int32))))))) ∧
    (¬ ¬ x5 = (60 : Int32) →
      Rt (.inl (some (jI (-1013)))) H1)) ∧
  (¬ ¬ x2 = 0 →
    Rt (.inl (some (jI (-1012)))) H1)) :
  jwp (jprog G) 325 Rt 0 [some (jR this), some (jI i_1)] [] H :=
  junf_wp (jprog_nf G) (stop := jmem []) (pX3_append G) 4000 _ _ _ _ h
/-- UnheardBellsModel sum(II)I @0 -/
theorem gX3_sum_0 (G : JG) {Rt : JRt} (this : Option Nat) (i_1 : Int32) (i_2 : Int32) {H : JHp} (h :
  jwp (jprog G) 330 Rt 5 [some (jR this), some (jI i_1), some (jI i_2), some (jI 0), some (jI 0)] [] H) :
  jwp (jprog G) 330 Rt 0 [some (jR this), some (jI i_1), some (jI i_2), none, none] [] H :=
  junf_wp (jprog_nf G) (stop := jmem [5]) (pX3_sum G) 4000 _ _ _ _ h
/-- UnheardBellsModel sum(II)I @5 -/
theorem gX3_sum_5 (G : JG) {Rt : JRt} (r_0 : Option Nat) (i_1 : Int32) (i_2 : Int32) (i_3 : Int32) (i_4 : Int32) {H : JHp} (h :
  ∃ (a1 : Nat) (fs2 : List JVal) (r3 : Option Nat), r_0 = some a1 ∧ job H a1 3 fs2 ∧ jn fs2 5 = some (jR r3) ∧
  ∃ (a4 n5 : Nat) (f6 : Nat → Int32), r3 = some a4 ∧ jar H a4 0 (aI n5 f6) ∧ vp_in (0 : Int32) n5 ∧
  ((f6 ((0 : Int32)).toNatClampNeg) ≤ i_4 →
    Rt (.inl (some (jI i_3))) H) ∧
  (¬ (f6 ((0 : Int32)).toNatClampNeg) ≤ i_4 →
    ∃ (a7 : Nat) (fs8 : List JVal) (r9 : Option Nat), r_0 = some a7 ∧ job H a7 3 fs8 ∧ jn fs8 5 = some (jR r9) ∧
    /- X3_at -/ ∃ (x11 : Int32) (H10 : JHp), jok (jprog G) 121 [jI i_4, jI 0] H (.inl (some (jI x11))) H10 ∧
    ∃ (a12 n13 : Nat) (f14 : Nat → Int32), r9 = some a12 ∧ jar H10 a12 0 (aI n13 f14) ∧ vp_in x11 n13 ∧
    (¬ (f14 (x11).toNatClampNeg) = i_1 →
      jwp (jprog G) 330 Rt 5 [some (jR r_0), some (jI i_1), some (jI i_2), some (jI i_3), some (jI (i_4 + 1))] [] H10) ∧
    (¬ ¬ (f14 (x11).toNatClampNeg) = i_1 →
      (¬ i_2 = (6 : Int32) →
        ∃ (a15 : Nat) (fs16 : List JVal) (r17 : Option Nat), r_0 = some a15 ∧ job H10 a15 3 fs16 ∧ jn fs16 5 = some (jR r17) ∧
        /- X3_at -/ ∃ (x19 : Int32) (H18 : JHp), jok (jprog G) 121 [jI i_4, jI i_2] H10 (.inl (some (jI x19))) H18 ∧
        ∃ (a20 n21 : Nat) (f22 : Nat → Int32), r17 = some a20 ∧ jar H18 a20 0 (aI n21 f22) ∧ vp_in x19 n21 ∧
        jwp (jprog G) 330 Rt 5 [some (jR r_0), some (jI i_1), some (jI i_2), some (jI (i_3 + (f22 (x19).toNatClampNeg))), some (jI (i_4 + 1))] [] H18) ∧
      (¬ ¬ i_2 = (6 : Int32) →
        ∃ (a23 : Nat) (fs24 : List JVal), r_0 = some a23 ∧ job H10 a23 3 fs24 ∧ /- X3_waitingOf -/ ∃ (x26 : Int32) (H25 : JHp), jok (jprog G) 317 [jR r_0, jI i_4] H10 (.inl (some (jI x26))) H25 ∧
        jwp (jprog G) 330 Rt 5 [some (jR r_0), some (jI i_1), some (jI i_2), some (jI (i_3 + x26)), some (jI (i_4 + 1))] [] H25)))) :
  jwp (jprog G) 330 Rt 5 [some (jR r_0), some (jI i_1), some (jI i_2), some (jI i_3), some (jI i_4)] [] H :=
  junf_wp (jprog_nf G) (stop := jmem [5]) (pX3_sum G) 4000 _ _ _ _ h
/-- UnheardBellsModel ranked(I)I @0 -/
theorem gX3_ranked_0 (G : JG) {Rt : JRt} (this : Option Nat) (i_1 : Int32) {H : JHp} (h :
  jwp (jprog G) 331 Rt 2 [some (jR this), some (jI i_1), some (jI 0), none, none, none] [] H) :
  jwp (jprog G) 331 Rt 0 [some (jR this), some (jI i_1), none, none, none, none] [] H :=
  junf_wp (jprog_nf G) (stop := jmem [2, 12, 58]) (pX3_ranked G) 4000 _ _ _ _ h
/-- UnheardBellsModel ranked(I)I @2 -/
theorem gX3_ranked_2 (G : JG) {Rt : JRt} (r_0 : Option Nat) (i_1 : Int32) (i_2 : Int32) (q_3 : Option JVal) (q_4 : Option JVal) (q_5 : Option JVal) {H : JHp} (h :
  ((4 : Int32) ≤ i_2 →
    Rt (.inl (some (jI (-1011)))) H) ∧
  (¬ (4 : Int32) ≤ i_2 →
    jwp (jprog G) 331 Rt 12 [some (jR r_0), some (jI i_1), some (jI i_2), some (jI 0), some (jI 0), q_5] [] H)) :
  jwp (jprog G) 331 Rt 2 [some (jR r_0), some (jI i_1), some (jI i_2), q_3, q_4, q_5] [] H :=
  junf_wp (jprog_nf G) (stop := jmem [2, 12, 58]) (pX3_ranked G) 4000 _ _ _ _ h
/-- UnheardBellsModel ranked(I)I @12 -/
theorem gX3_ranked_12 (G : JG) {Rt : JRt} (r_0 : Option Nat) (i_1 : Int32) (i_2 : Int32) (i_3 : Int32) (i_4 : Int32) (q_5 : Option JVal) {H : JHp} (h :
  ((4 : Int32) ≤ i_4 →
    (¬ i_3 = i_1 →
      jwp (jprog G) 331 Rt 2 [some (jR r_0), some (jI i_1), some (jI (i_2 + 1)), some (jI i_3), some (jI i_4), q_5] [] H) ∧
    (¬ ¬ i_3 = i_1 →
      Rt (.inl (some (jI i_2))) H)) ∧
  (¬ (4 : Int32) ≤ i_4 →
    ∃ (a1 : Nat) (fs2 : List JVal), r_0 = some a1 ∧ job H a1 3 fs2 ∧ /- X3_sum -/ ∃ (x4 : Int32) (H3 : JHp), jok (jprog G) 330 [jR r_0, jI i_4, jI 3] H (.inl (some (jI x4))) H3 ∧
    ∃ (a5 : Nat) (fs6 : List JVal), r_0 = some a5 ∧ job H3 a5 3 fs6 ∧ /- X3_sum -/ ∃ (x8 : Int32) (H7 : JHp), jok (jprog G) 330 [jR r_0, jI i_2, jI 3] H3 (.inl (some (jI x8))) H7 ∧
    ((x4 - x8) = 0 →
      ∃ (a9 : Nat) (fs10 : List JVal), r_0 = some a9 ∧ job H7 a9 3 fs10 ∧ /- X3_ropesOf -/ ∃ (x12 : Int32) (H11 : JHp), jok (jprog G) 217 [jR r_0, jI i_4, jI (-1)] H7 (.inl (some (jI x12))) H11 ∧
      ∃ (a13 : Nat) (fs14 : List JVal), r_0 = some a13 ∧ job H11 a13 3 fs14 ∧ /- X3_ropesOf -/ ∃ (x16 : Int32) (H15 : JHp), jok (jprog G) 217 [jR r_0, jI i_2, jI (-1)] H11 (.inl (some (jI x16))) H15 ∧
      jwp (jprog G) 331 Rt 58 [some (jR r_0), some (jI i_1), some (jI i_2), some (jI i_3), some (jI i_4), some (jI (x4 - x8))] [jI (x12 - x16)] H15) ∧
    (¬ (x4 - x8) = 0 →
      jwp (jprog G) 331 Rt 58 [some (jR r_0), some (jI i_1), some (jI i_2), some (jI i_3), some (jI i_4), some (jI (x4 - x8))] [jI (x4 - x8)] H7))) :
  jwp (jprog G) 331 Rt 12 [some (jR r_0), some (jI i_1), some (jI i_2), some (jI i_3), some (jI i_4), q_5] [] H :=
  junf_wp (jprog_nf G) (stop := jmem [2, 12, 58]) (pX3_ranked G) 4000 _ _ _ _ h
/-- UnheardBellsModel ranked(I)I @58 -/
theorem gX3_ranked_58 (G : JG) {Rt : JRt} (r_0 : Option Nat) (i_1 : Int32) (i_2 : Int32) (i_3 : Int32) (i_4 : Int32) (q_5 : Option JVal) (si_0 : Int32) {H : JHp} (h :
  (i_4 = i_2 →
    jwp (jprog G) 331 Rt 12 [some (jR r_0), some (jI i_1), some (jI i_2), some (jI (i_3 + (0 : Int32))), some (jI (i_4 + 1)), some (jI si_0)] [] H) ∧
  (¬ i_4 = i_2 →
    (0 < si_0 →
      jwp (jprog G) 331 Rt 12 [some (jR r_0), some (jI i_1), some (jI i_2), some (jI (i_3 + (1 : Int32))), some (jI (i_4 + 1)), some (jI si_0)] [] H) ∧
    (¬ 0 < si_0 →
      (¬ si_0 = 0 →
        jwp (jprog G) 331 Rt 12 [some (jR r_0), some (jI i_1), some (jI i_2), some (jI (i_3 + (0 : Int32))), some (jI (i_4 + 1)), some (jI si_0)] [] H) ∧
      (¬ ¬ si_0 = 0 →
        (i_2 ≤ i_4 →
          jwp (jprog G) 331 Rt 12 [some (jR r_0), some (jI i_1), some (jI i_2), some (jI (i_3 + (0 : Int32))), some (jI (i_4 + 1)), some (jI si_0)] [] H) ∧
        (¬ i_2 ≤ i_4 →
          jwp (jprog G) 331 Rt 12 [some (jR r_0), some (jI i_1), some (jI i_2), some (jI (i_3 + (1 : Int32))), some (jI (i_4 + 1)), some (jI si_0)] [] H))))) :
  jwp (jprog G) 331 Rt 58 [some (jR r_0), some (jI i_1), some (jI i_2), some (jI i_3), some (jI i_4), q_5] [jI si_0] H :=
  junf_wp (jprog_nf G) (stop := jmem [2, 12, 58]) (pX3_ranked G) 4000 _ _ _ _ h
/-- UnheardBellsModel rustiest(I)I @0 -/
theorem gX3_rustiest_0 (G : JG) {Rt : JRt} (this : Option Nat) (i_1 : Int32) {H : JHp} (h :
  jwp (jprog G) 335 Rt 2 [some (jR this), some (jI i_1), some (jI 0), none, none, none] [] H) :
  jwp (jprog G) 335 Rt 0 [some (jR this), some (jI i_1), none, none, none, none] [] H :=
  junf_wp (jprog_nf G) (stop := jmem [2, 17, 84]) (pX3_rustiest G) 4000 _ _ _ _ h
/-- UnheardBellsModel rustiest(I)I @2 -/
theorem gX3_rustiest_2 (G : JG) {Rt : JRt} (r_0 : Option Nat) (i_1 : Int32) (i_2 : Int32) (q_3 : Option JVal) (q_4 : Option JVal) (q_5 : Option JVal) {H : JHp} (h :
  ∃ (a1 : Nat) (fs2 : List JVal) (r3 : Option Nat), r_0 = some a1 ∧ job H a1 3 fs2 ∧ jn fs2 5 = some (jR r3) ∧
  ∃ (a4 n5 : Nat) (f6 : Nat → Int32), r3 = some a4 ∧ jar H a4 0 (aI n5 f6) ∧ vp_in (0 : Int32) n5 ∧
  ((f6 ((0 : Int32)).toNatClampNeg) ≤ i_2 →
    Rt (.inl (some (jI (-1011)))) H) ∧
  (¬ (f6 ((0 : Int32)).toNatClampNeg) ≤ i_2 →
    jwp (jprog G) 335 Rt 17 [some (jR r_0), some (jI i_1), some (jI i_2), some (jI 0), some (jI 0), q_5] [] H)) :
  jwp (jprog G) 335 Rt 2 [some (jR r_0), some (jI i_1), some (jI i_2), q_3, q_4, q_5] [] H :=
  junf_wp (jprog_nf G) (stop := jmem [2, 17, 84]) (pX3_rustiest G) 4000 _ _ _ _ h
/-- UnheardBellsModel rustiest(I)I @17 -/
theorem gX3_rustiest_17 (G : JG) {Rt : JRt} (r_0 : Option Nat) (i_1 : Int32) (i_2 : Int32) (i_3 : Int32) (i_4 : Int32) (q_5 : Option JVal) {H : JHp} (h :
  ∃ (a1 : Nat) (fs2 : List JVal) (r3 : Option Nat), r_0 = some a1 ∧ job H a1 3 fs2 ∧ jn fs2 5 = some (jR r3) ∧
  ∃ (a4 n5 : Nat) (f6 : Nat → Int32), r3 = some a4 ∧ jar H a4 0 (aI n5 f6) ∧ vp_in (0 : Int32) n5 ∧
  ((f6 ((0 : Int32)).toNatClampNeg) ≤ i_4 →
    (¬ i_3 = i_1 →
      jwp (jprog G) 335 Rt 2 [some (jR r_0), some (jI i_1), some (jI (i_2 + 1)), some (jI i_3), some (jI i_4), q_5] [] H) ∧
    (¬ ¬ i_3 = i_1 →
      Rt (.inl (some (jI i_2))) H)) ∧
  (¬ (f6 ((0 : Int32)).toNatClampNeg) ≤ i_4 →
    ∃ (a7 : Nat) (fs8 : List JVal) (r9 : Option Nat), r_0 = some a7 ∧ job H a7 3 fs8 ∧ jn fs8 5 = some (jR r9) ∧
    /- X3_at -/ ∃ (x11 : Int32) (H10 : JHp), jok (jprog G) 121 [jI i_4, jI 2] H (.inl (some (jI x11))) H10 ∧
    ∃ (a12 n13 : Nat) (f14 : Nat → Int32), r9 = some a12 ∧ jar H10 a12 0 (aI n13 f14) ∧ vp_in x11 n13 ∧
    ∃ (a15 : Nat) (fs16 : List JVal) (r17 : Option Nat), r_0 = some a15 ∧ job H10 a15 3 fs16 ∧ jn fs16 5 = some (jR r17) ∧
    /- X3_at -/ ∃ (x19 : Int32) (H18 : JHp), jok (jprog G) 121 [jI i_2, jI 2] H10 (.inl (some (jI x19))) H18 ∧
    ∃ (a20 n21 : Nat) (f22 : Nat → Int32), r17 = some a20 ∧ jar H18 a20 0 (aI n21 f22) ∧ vp_in x19 n21 ∧
    (((f14 (x11).toNatClampNeg) - (f22 (x19).toNatClampNeg)) = 0 →
      ∃ (a23 : Nat) (fs24 : List JVal) (r25 : Option Nat), r_0 = some a23 ∧ job H18 a23 3 fs24 ∧ jn fs24 5 = some (jR r25) ∧
      /- X3_at -/ ∃ (x27 : Int32) (H26 : JHp), jok (jprog G) 121 [jI i_2, jI 3] H18 (.inl (some (jI x27))) H26 ∧
      ∃ (a28 n29 : Nat) (f30 : Nat → Int32), r25 = some a28 ∧ jar H26 a28 0 (aI n29 f30) ∧ vp_in x27 n29 ∧
      ∃ (a31 : Nat) (fs32 : List JVal) (r33 : Option Nat), r_0 = some a31 ∧ job H26 a31 3 fs32 ∧ jn fs32 5 = some (jR r33) ∧
      /- X3_at -/ ∃ (x35 : Int32) (H34 : JHp), jok (jprog G) 121 [jI i_4, jI 3] H26 (.inl (some (jI x35))) H34 ∧
      ∃ (a36 n37 : Nat) (f38 : Nat → Int32), r33 = some a36 ∧ jar H34 a36 0 (aI n37 f38) ∧ vp_in x35 n37 ∧
      jwp (jprog G) 335 Rt 84 [some (jR r_0), some (jI i_1), some (jI i_2), some (jI i_3), some (jI i_4), some (jI ((f14 (x11).toNatClampNeg) - (f22 (x19).toNatClampNeg)))] [jI ((f30 (x27).toNatClampNeg) - (f38 (x35).toNatClampNeg))] H34) ∧
    (¬ ((f14 (x11).toNatClampNeg) - (f22 (x19).toNatClampNeg)) = 0 →
      jwp (jprog G) 335 Rt 84 [some (jR r_0), some (jI i_1), some (jI i_2), some (jI i_3), some (jI i_4), some (jI ((f14 (x11).toNatClampNeg) - (f22 (x19).toNatClampNeg)))] [jI ((f14 (x11).toNatClampNeg) - (f22 (x19).toNatClampNeg))] H18))) :
  jwp (jprog G) 335 Rt 17 [some (jR r_0), some (jI i_1), some (jI i_2), some (jI i_3), some (jI i_4), q_5] [] H :=
  junf_wp (jprog_nf G) (stop := jmem [2, 17, 84]) (pX3_rustiest G) 4000 _ _ _ _ h
/-- UnheardBellsModel rustiest(I)I @84 -/
theorem gX3_rustiest_84 (G : JG) {Rt : JRt} (r_0 : Option Nat) (i_1 : Int32) (i_2 : Int32) (i_3 : Int32) (i_4 : Int32) (q_5 : Option JVal) (si_0 : Int32) {H : JHp} (h :
  (i_4 = i_2 →
    jwp (jprog G) 335 Rt 17 [some (jR r_0), some (jI i_1), some (jI i_2), some (jI (i_3 + (0 : Int32))), some (jI (i_4 + 1)), some (jI si_0)] [] H) ∧
  (¬ i_4 = i_2 →
    (0 < si_0 →
      jwp (jprog G) 335 Rt 17 [some (jR r_0), some (jI i_1), some (jI i_2), some (jI (i_3 + (1 : Int32))), some (jI (i_4 + 1)), some (jI si_0)] [] H) ∧
    (¬ 0 < si_0 →
      (¬ si_0 = 0 →
        jwp (jprog G) 335 Rt 17 [some (jR r_0), some (jI i_1), some (jI i_2), some (jI (i_3 + (0 : Int32))), some (jI (i_4 + 1)), some (jI si_0)] [] H) ∧
      (¬ ¬ si_0 = 0 →
        (i_2 ≤ i_4 →
          jwp (jprog G) 335 Rt 17 [some (jR r_0), some (jI i_1), some (jI i_2), some (jI (i_3 + (0 : Int32))), some (jI (i_4 + 1)), some (jI si_0)] [] H) ∧
        (¬ i_2 ≤ i_4 →
          jwp (jprog G) 335 Rt 17 [some (jR r_0), some (jI i_1), some (jI i_2), some (jI (i_3 + (1 : Int32))), some (jI (i_4 + 1)), some (jI si_0)] [] H))))) :
  jwp (jprog G) 335 Rt 84 [some (jR r_0), some (jI i_1), some (jI i_2), some (jI i_3), some (jI i_4), q_5] [jI si_0] H :=
  junf_wp (jprog_nf G) (stop := jmem [2, 17, 84]) (pX3_rustiest G) 4000 _ _ _ _ h
/-- UnheardBellsModel bits(I)I @0 -/
theorem gX3_bits_0 (G : JG) {Rt : JRt} (i_0 : Int32) {H : JHp} (h :
  jwp (jprog G) 340 Rt 4 [some (jI i_0), some (jI 0), some (jI i_0)] [] H) :
  jwp (jprog G) 340 Rt 0 [some (jI i_0), none, none] [] H :=
  junf_wp (jprog_nf G) (stop := jmem [4]) (pX3_bits G) 4000 _ _ _ _ h
/-- UnheardBellsModel bits(I)I @4 -/
theorem gX3_bits_4 (G : JG) {Rt : JRt} (q_0 : Option JVal) (i_1 : Int32) (i_2 : Int32) {H : JHp} (h :
  (i_2 = 0 →
    Rt (.inl (some (jI i_1))) H) ∧
  (¬ i_2 = 0 →
    jwp (jprog G) 340 Rt 4 [(jclr q_0), some (jI (i_1 + 1)), some (jI (i_2 &&& (i_2 - (1 : Int32))))] [] H)) :
  jwp (jprog G) 340 Rt 4 [q_0, some (jI i_1), some (jI i_2)] [] H :=
  junf_wp (jprog_nf G) (stop := jmem [4]) (pX3_bits G) 4000 _ _ _ _ h
/-- UnheardBellsModel busiest()I @0 -/
theorem gX3_busiest_0 (G : JG) {Rt : JRt} (this : Option Nat) {H : JHp} (h :
  jwp (jprog G) 341 Rt 4 [some (jR this), some (jI 0), some (jI 1)] [] H) :
  jwp (jprog G) 341 Rt 0 [some (jR this), none, none] [] H :=
  junf_wp (jprog_nf G) (stop := jmem [4]) (pX3_busiest G) 4000 _ _ _ _ h
/-- UnheardBellsModel busiest()I @4 -/
theorem gX3_busiest_4 (G : JG) {Rt : JRt} (r_0 : Option Nat) (i_1 : Int32) (i_2 : Int32) {H : JHp} (h :
  ((24 : Int32) ≤ i_2 →
    ∃ (a1 : Nat) (fs2 : List JVal) (r3 : Option Nat), r_0 = some a1 ∧ job H a1 3 fs2 ∧ jn fs2 5 = some (jR r3) ∧
    ∃ (a4 n5 : Nat) (f6 : Nat → Int32), r3 = some a4 ∧ jar H a4 0 (aI n5 f6) ∧ vp_in ((211 : Int32) + i_1) n5 ∧
    (¬ (f6 (((211 : Int32) + i_1)).toNatClampNeg) = 0 →
      Rt (.inl (some (jI i_1))) H) ∧
    (¬ ¬ (f6 (((211 : Int32) + i_1)).toNatClampNeg) = 0 →
      Rt (.inl (some (jI (-1015)))) H)) ∧
  (¬ (24 : Int32) ≤ i_2 →
    ∃ (a7 : Nat) (fs8 : List JVal) (r9 : Option Nat), r_0 = some a7 ∧ job H a7 3 fs8 ∧ jn fs8 5 = some (jR r9) ∧
    ∃ (a10 n11 : Nat) (f12 : Nat → Int32), r9 = some a10 ∧ jar H a10 0 (aI n11 f12) ∧ vp_in ((211 : Int32) + i_2) n11 ∧
    /- X3_bits -/ ∃ (x14 : Int32) (H13 : JHp), jok (jprog G) 340 [jI (f12 (((211 : Int32) + i_2)).toNatClampNeg)] H (.inl (some (jI x14))) H13 ∧
    ∃ (a15 : Nat) (fs16 : List JVal) (r17 : Option Nat), r_0 = some a15 ∧ job H13 a15 3 fs16 ∧ jn fs16 5 = some (jR r17) ∧
    ∃ (a18 n19 : Nat) (f20 : Nat → Int32), r17 = some a18 ∧ jar H13 a18 0 (aI n19 f20) ∧ vp_in ((211 : Int32) + i_1) n19 ∧
    /- X3_bits -/ ∃ (x22 : Int32) (H21 : JHp), jok (jprog G) 340 [jI (f20 (((211 : Int32) + i_1)).toNatClampNeg)] H13 (.inl (some (jI x22))) H21 ∧
    (x14 ≤ x22 →
      jwp (jprog G) 341 Rt 4 [some (jR r_0), some (jI i_1), some (jI (i_2 + 1))] [] H21) ∧
    (¬ x14 ≤ x22 →
      jwp (jprog G) 341 Rt 4 [some (jR r_0), some (jI i_2), some (jI (i_2 + 1))] [] H21))) :
  jwp (jprog G) 341 Rt 4 [some (jR r_0), some (jI i_1), some (jI i_2)] [] H :=
  junf_wp (jprog_nf G) (stop := jmem [4]) (pX3_busiest G) 4000 _ _ _ _ h
/-- UnheardBellsModel hoursOf(I)I @0 -/
theorem gX3_hoursOf_0 (G : JG) {Rt : JRt} (this : Option Nat) (i_1 : Int32) {H : JHp} (h :
  jwp (jprog G) 347 Rt 4 [some (jR this), some (jI i_1), some (jI 0), some (jI 0)] [] H) :
  jwp (jprog G) 347 Rt 0 [some (jR this), some (jI i_1), none, none] [] H :=
  junf_wp (jprog_nf G) (stop := jmem [4]) (pX3_hoursOf G) 4000 _ _ _ _ h
/-- UnheardBellsModel hoursOf(I)I @4 -/
theorem gX3_hoursOf_4 (G : JG) {Rt : JRt} (r_0 : Option Nat) (i_1 : Int32) (i_2 : Int32) (i_3 : Int32) {H : JHp} (h :
  ((24 : Int32) ≤ i_3 →
    Rt (.inl (some (jI i_2))) H) ∧
  (¬ (24 : Int32) ≤ i_3 →
    ∃ (a1 : Nat) (fs2 : List JVal), r_0 = some a1 ∧ job H a1 3 fs2 ∧ /- X3_guessed -/ ∃ (x4 : Int32) (H3 : JHp), jok (jprog G) 218 [jR r_0, jI i_3] H (.inl (some (jI x4))) H3 ∧
    (¬ x4 = i_1 →
      jwp (jprog G) 347 Rt 4 [some (jR r_0), some (jI i_1), some (jI (i_2 + (0 : Int32))), some (jI (i_3 + 1))] [] H3) ∧
    (¬ ¬ x4 = i_1 →
      jwp (jprog G) 347 Rt 4 [some (jR r_0), some (jI i_1), some (jI (i_2 + (1 : Int32))), some (jI (i_3 + 1))] [] H3))) :
  jwp (jprog G) 347 Rt 4 [some (jR r_0), some (jI i_1), some (jI i_2), some (jI i_3)] [] H :=
  junf_wp (jprog_nf G) (stop := jmem [4]) (pX3_hoursOf G) 4000 _ _ _ _ h
/-- UnheardBellsModel parishOf(II)I @0 -/
theorem gX3_parishOf_0 (G : JG) {Rt : JRt} (this : Option Nat) (i_1 : Int32) (i_2 : Int32) {H : JHp} (h :
  /- X3_isParish -/ ∃ (x2 : Int32) (H1 : JHp), jok (jprog G) 301 [jI i_1] H (.inl (some (jI x2))) H1 ∧
  (¬ x2 = 0 →
    (i_2 = 0 → ∃ (a3 : Nat) (fs4 : List JVal), this = some a3 ∧ job H1 a3 3 fs4 ∧ /- X3_ropesOf -/ ∃ (x6 : Int32) (H5 : JHp), jok (jprog G) 217 [jR this, jI i_1, jI (-1)] H1 (.inl (some (jI x6))) H5 ∧
      Rt (.inl (some (jI x6))) H5) ∧
    (¬ i_2 = 0 → (i_2 = 1 → ∃ (a7 : Nat) (fs8 : List JVal), this = some a7 ∧ job H1 a7 3 fs8 ∧ /- X3_sum -/ ∃ (x10 : Int32) (H9 : JHp), jok (jprog G) 330 [jR this, jI i_1, jI 3] H1 (.inl (some (jI x10))) H9 ∧
      Rt (.inl (some (jI x10))) H9) ∧
    (¬ i_2 = 1 → (i_2 = 2 → ∃ (a11 : Nat) (fs12 : List JVal), this = some a11 ∧ job H1 a11 3 fs12 ∧ /- X3_sum -/ ∃ (x14 : Int32) (H13 : JHp), jok (jprog G) 330 [jR this, jI i_1, jI 2] H1 (.inl (some (jI x14))) H13 ∧
      Rt (.inl (some (jI x14))) H13) ∧
    (¬ i_2 = 2 → (i_2 = 3 → ∃ (a15 : Nat) (fs16 : List JVal), this = some a15 ∧ job H1 a15 3 fs16 ∧ /- X3_hoursOf -/ ∃ (x18 : Int32) (H17 : JHp), jok (jprog G) 347 [jR this, jI i_1] H1 (.inl (some (jI x18))) H17 ∧
      Rt (.inl (some (jI x18))) H17) ∧
    (¬ i_2 = 3 → (i_2 = 4 → ∃ (a19 : Nat) (fs20 : List JVal), this = some a19 ∧ job H1 a19 3 fs20 ∧ /- X3_sum -/ ∃ (x22 : Int32) (H21 : JHp), jok (jprog G) 330 [jR this, jI i_1, jI 6] H1 (.inl (some (jI x22))) H21 ∧
      Rt (.inl (some (jI x22))) H21) ∧
    (¬ i_2 = 4 → Rt (.inl (some (jI (-1012)))) H1)))))) ∧
  (¬ ¬ x2 = 0 →
    Rt (.inl (some (jI (-1011)))) H1)) :
  jwp (jprog G) 348 Rt 0 [some (jR this), some (jI i_1), some (jI i_2)] [] H :=
  junf_wp (jprog_nf G) (stop := jmem []) (pX3_parishOf G) 4000 _ _ _ _ h
/-- UnheardBellsModel isHour(I)Z @0 -/
theorem gX3_isHour_0 (G : JG) {Rt : JRt} (i_0 : Int32) {H : JHp} (h :
  /- X3_isIn -/ ∃ (x2 : Int32) (H1 : JHp), jok (jprog G) 178 [jI i_0, jI 0, jI 23] H (.inl (some (jI x2))) H1 ∧
  jbool x2 ∧ Rt (.inl (some (jI x2))) H1) :
  jwp (jprog G) 350 Rt 0 [some (jI i_0)] [] H :=
  junf_wp (jprog_nf G) (stop := jmem []) (pX3_isHour G) 4000 _ _ _ _ h
/-- UnheardBellsModel guess(I)I @0 -/
theorem gX3_guess_0 (G : JG) {Rt : JRt} (this : Option Nat) (i_1 : Int32) {H : JHp} (h :
  /- X3_isHour -/ ∃ (x2 : Int32) (H1 : JHp), jok (jprog G) 350 [jI i_1] H (.inl (some (jI x2))) H1 ∧
  (x2 = 0 →
    Rt (.inl (some (jI (-1012)))) H1) ∧
  (¬ x2 = 0 →
    ∃ (a3 : Nat) (fs4 : List JVal), this = some a3 ∧ job H1 a3 3 fs4 ∧ /- X3_guessed -/ ∃ (x6 : Int32) (H5 : JHp), jok (jprog G) 218 [jR this, jI i_1] H1 (.inl (some (jI x6))) H5 ∧
    Rt (.inl (some (jI x6))) H5)) :
  jwp (jprog G) 351 Rt 0 [some (jR this), some (jI i_1)] [] H :=
  junf_wp (jprog_nf G) (stop := jmem []) (pX3_guess G) 4000 _ _ _ _ h
/-- UnheardBellsModel guessAgain(I)I @0 -/
theorem gX3_guessAgain_0 (G : JG) {Rt : JRt} (this : Option Nat) (i_1 : Int32) {H : JHp} (h :
  ∃ (a1 : Nat) (fs2 : List JVal), this = some a1 ∧ job H a1 3 fs2 ∧ /- X3_guess -/ ∃ (x4 : Int32) (H3 : JHp), jok (jprog G) 351 [jR this, jI i_1] H (.inl (some (jI x4))) H3 ∧
  Rt (.inl (some (jI x4))) H3) :
  jwp (jprog G) 352 Rt 0 [some (jR this), some (jI i_1)] [] H :=
  junf_wp (jprog_nf G) (stop := jmem []) (pX3_guessAgain G) 4000 _ _ _ _ h
/-- UnheardBellsModel answered(I)I @0 -/
theorem gX3_answered_0 (G : JG) {Rt : JRt} (this : Option Nat) (i_1 : Int32) {H : JHp} (h :
  /- X3_isHour -/ ∃ (x2 : Int32) (H1 : JHp), jok (jprog G) 350 [jI i_1] H (.inl (some (jI x2))) H1 ∧
  (x2 = 0 →
    Rt (.inl (some (jI (-1012)))) H1) ∧
  (¬ x2 = 0 →
    ∃ (a3 : Nat) (fs4 : List JVal) (r5 : Option Nat), this = some a3 ∧ job H1 a3 3 fs4 ∧ jn fs4 5 = some (jR r5) ∧
    ∃ (a6 n7 : Nat) (f8 : Nat → Int32), r5 = some a6 ∧ jar H1 a6 0 (aI n7 f8) ∧ vp_in ((211 : Int32) + i_1) n7 ∧
    Rt (.inl (some (jI (f8 (((211 : Int32) + i_1)).toNatClampNeg)))) H1)) :
  jwp (jprog G) 356 Rt 0 [some (jR this), some (jI i_1)] [] H :=
  junf_wp (jprog_nf G) (stop := jmem []) (pX3_answered G) 4000 _ _ _ _ h
/-- UnheardBellsModel answerOf(II)I @0 -/
theorem gX3_answerOf_0 (G : JG) {Rt : JRt} (this : Option Nat) (i_1 : Int32) (i_2 : Int32) {H : JHp} (h :
  ∃ (a1 : Nat) (fs2 : List JVal) (r3 : Option Nat), this = some a1 ∧ job H a1 3 fs2 ∧ jn fs2 5 = some (jR r3) ∧
  ∃ (a4 n5 : Nat) (f6 : Nat → Int32), r3 = some a4 ∧ jar H a4 0 (aI n5 f6) ∧ vp_in (9 : Int32) n5 ∧
  /- X3_isIn -/ ∃ (x8 : Int32) (H7 : JHp), jok (jprog G) 178 [jI i_1, jI 0, jI ((f6 ((9 : Int32)).toNatClampNeg) - (1 : Int32))] H (.inl (some (jI x8))) H7 ∧
  (¬ x8 = 0 →
    /- X3_isIn -/ ∃ (x10 : Int32) (H9 : JHp), jok (jprog G) 178 [jI i_2, jI 0, jI 3] H7 (.inl (some (jI x10))) H9 ∧
    (x10 = 0 →
      Rt (.inl (some (jI (-1012)))) H9) ∧
    (¬ x10 = 0 →
      ∃ (a11 : Nat) (fs12 : List JVal) (r13 : Option Nat), this = some a11 ∧ job H9 a11 3 fs12 ∧ jn fs12 5 = some (jR r13) ∧
      ∃ (a14 n15 : Nat) (f16 : Nat → Int32), r13 = some a14 ∧ jar H9 a14 0 (aI n15 f16) ∧ vp_in (((131 : Int32) + ((4 : Int32) * i_1)) + i_2) n15 ∧
      Rt (.inl (some (jI (f16 ((((131 : Int32) + ((4 : Int32) * i_1)) + i_2)).toNatClampNeg)))) H9)) ∧
  (¬ ¬ x8 = 0 →
    Rt (.inl (some (jI (-1011)))) H7)) :
  jwp (jprog G) 360 Rt 0 [some (jR this), some (jI i_1), some (jI i_2)] [] H :=
  junf_wp (jprog_nf G) (stop := jmem []) (pX3_answerOf G) 4000 _ _ _ _ h
/-- UnheardBellsModel forecast()I @0 -/
theorem gX3_forecast_0 (G : JG) {Rt : JRt} (this : Option Nat) {H : JHp} (h :
  ∃ (a1 : Nat) (fs2 : List JVal) (r3 : Option Nat), this = some a1 ∧ job H a1 3 fs2 ∧ jn fs2 8 = some (jR r3) ∧
  ∃ (a4 : Nat) (fs5 : List JVal) (r6 : Option Nat), this = some a4 ∧ job H a4 3 fs5 ∧ jn fs5 5 = some (jR r6) ∧
  /- X3_lays -/ ∃ H7 : JHp, jok (jprog G) 106 [jR r3, jR r6] H (.inl none) H7 ∧
  jwp (jprog G) 362 Rt 13 [some (jR this), some (jI 0)] [] H7) :
  jwp (jprog G) 362 Rt 0 [some (jR this), none] [] H :=
  junf_wp (jprog_nf G) (stop := jmem [13]) (pX3_forecast G) 4000 _ _ _ _ h
/-- UnheardBellsModel forecast()I @13 -/
theorem gX3_forecast_13 (G : JG) {Rt : JRt} (r_0 : Option Nat) (i_1 : Int32) {H : JHp} (h :
  ∃ (a1 : Nat) (fs2 : List JVal) (r3 : Option Nat), r_0 = some a1 ∧ job H a1 3 fs2 ∧ jn fs2 5 = some (jR r3) ∧
  ∃ (a4 n5 : Nat) (f6 : Nat → Int32), r3 = some a4 ∧ jar H a4 0 (aI n5 f6) ∧ vp_in (1 : Int32) n5 ∧
  ((f6 ((1 : Int32)).toNatClampNeg) ≤ 0 →
    ∃ (a7 : Nat) (fs8 : List JVal) (r9 : Option Nat), r_0 = some a7 ∧ job H a7 3 fs8 ∧ jn fs8 5 = some (jR r9) ∧
    ∃ (a10 : Nat) (fs11 : List JVal) (r12 : Option Nat), r_0 = some a10 ∧ job H a10 3 fs11 ∧ jn fs11 8 = some (jR r12) ∧
    /- X3_lays -/ ∃ H13 : JHp, jok (jprog G) 106 [jR r9, jR r12] H (.inl none) H13 ∧
    Rt (.inl (some (jI i_1))) H13) ∧
  (¬ (f6 ((1 : Int32)).toNatClampNeg) ≤ 0 →
    ∃ (a14 : Nat) (fs15 : List JVal), r_0 = some a14 ∧ job H a14 3 fs15 ∧ /- X3_ringsNext -/ ∃ (x17 : Int32) (H16 : JHp), jok (jprog G) 313 [jR r_0] H (.inl (some (jI x17))) H16 ∧
    (¬ x17 = (1 : Int32) →
      jwp (jprog G) 362 Rt 13 [some (jR r_0), some (jI (i_1 + (0 : Int32)))] [] H16) ∧
    (¬ ¬ x17 = (1 : Int32) →
      jwp (jprog G) 362 Rt 13 [some (jR r_0), some (jI (i_1 + (1 : Int32)))] [] H16))) :
  jwp (jprog G) 362 Rt 13 [some (jR r_0), some (jI i_1)] [] H :=
  junf_wp (jprog_nf G) (stop := jmem [13]) (pX3_forecast G) 4000 _ _ _ _ h
/-- UnheardBellsModel forecastAgain()I @0 -/
theorem gX3_forecastAgain_0 (G : JG) {Rt : JRt} (this : Option Nat) {H : JHp} (h :
  ∃ (a1 : Nat) (fs2 : List JVal), this = some a1 ∧ job H a1 3 fs2 ∧ /- X3_forecast -/ ∃ (x4 : Int32) (H3 : JHp), jok (jprog G) 362 [jR this] H (.inl (some (jI x4))) H3 ∧
  Rt (.inl (some (jI x4))) H3) :
  jwp (jprog G) 363 Rt 0 [some (jR this)] [] H :=
  junf_wp (jprog_nf G) (stop := jmem []) (pX3_forecastAgain G) 4000 _ _ _ _ h
/-- UnheardBellsModel would(II)I @0 -/
theorem gX3_would_0 (G : JG) {Rt : JRt} (this : Option Nat) (i_1 : Int32) (i_2 : Int32) {H : JHp} (h :
  ∃ (a1 : Nat) (fs2 : List JVal), this = some a1 ∧ job H a1 3 fs2 ∧ /- X3_isRope -/ ∃ (x4 : Int32) (H3 : JHp), jok (jprog G) 223 [jR this, jI i_1] H (.inl (some (jI x4))) H3 ∧
  (¬ x4 = 0 →
    /- X3_isIn -/ ∃ (x6 : Int32) (H5 : JHp), jok (jprog G) 178 [jI i_2, jI 1, jI 9] H3 (.inl (some (jI x6))) H5 ∧
    (¬ x6 = 0 →
      ∃ (a7 : Nat) (fs8 : List JVal), this = some a7 ∧ job H5 a7 3 fs8 ∧ /- X3_isHeard -/ ∃ (x10 : Int32) (H9 : JHp), jok (jprog G) 311 [jR this, jI i_1, jI i_2] H5 (.inl (some (jI x10))) H9 ∧
      (x10 = 0 →
        Rt (.inl (some (jI 0))) H9) ∧
      (¬ x10 = 0 →
        Rt (.inl (some (jI 1))) H9)) ∧
    (¬ ¬ x6 = 0 →
      Rt (.inl (some (jI (-1012)))) H5)) ∧
  (¬ ¬ x4 = 0 →
    Rt (.inl (some (jI (-1011)))) H3)) :
  jwp (jprog G) 366 Rt 0 [some (jR this), some (jI i_1), some (jI i_2)] [] H :=
  junf_wp (jprog_nf G) (stop := jmem []) (pX3_would G) 4000 _ _ _ _ h
/-- UnheardBellsModel waiting(II)I @0 -/
theorem gX3_waiting_0 (G : JG) {Rt : JRt} (this : Option Nat) (i_1 : Int32) (i_2 : Int32) {H : JHp} (h :
  ∃ (a1 : Nat) (fs2 : List JVal) (r3 : Option Nat), this = some a1 ∧ job H a1 3 fs2 ∧ jn fs2 5 = some (jR r3) ∧
  ∃ (a4 n5 : Nat) (f6 : Nat → Int32), r3 = some a4 ∧ jar H a4 0 (aI n5 f6) ∧ vp_in (1 : Int32) n5 ∧
  /- X3_isIn -/ ∃ (x8 : Int32) (H7 : JHp), jok (jprog G) 178 [jI i_1, jI 0, jI ((f6 ((1 : Int32)).toNatClampNeg) - (1 : Int32))] H (.inl (some (jI x8))) H7 ∧
  (¬ x8 = 0 →
    /- X3_isIn -/ ∃ (x10 : Int32) (H9 : JHp), jok (jprog G) 178 [jI i_2, jI 0, jI 2] H7 (.inl (some (jI x10))) H9 ∧
    (x10 = 0 →
      Rt (.inl (some (jI (-1012)))) H9) ∧
    (¬ x10 = 0 →
      ∃ (a11 : Nat) (fs12 : List JVal), this = some a11 ∧ job H9 a11 3 fs12 ∧ /- X3_pulled -/ ∃ (x14 : Int32) (H13 : JHp), jok (jprog G) 224 [jR this, jI i_1, jI i_2] H9 (.inl (some (jI x14))) H13 ∧
      Rt (.inl (some (jI x14))) H13)) ∧
  (¬ ¬ x8 = 0 →
    Rt (.inl (some (jI (-1011)))) H7)) :
  jwp (jprog G) 372 Rt 0 [some (jR this), some (jI i_1), some (jI i_2)] [] H :=
  junf_wp (jprog_nf G) (stop := jmem []) (pX3_waiting G) 4000 _ _ _ _ h
/-- UnheardBellsModel end()I @0 -/
theorem gX3_end_0 (G : JG) {Rt : JRt} (this : Option Nat) {H : JHp} (h :
  ∃ (a1 : Nat) (fs2 : List JVal), this = some a1 ∧ job H a1 3 fs2 ∧ /- X3_begins -/ ∃ H3 : JHp, jok (jprog G) 293 [jR this] H (.inl none) H3 ∧
  ∃ (a4 : Nat) (fs5 : List JVal), this = some a4 ∧ job H3 a4 3 fs5 ∧ /- X3_endsDay -/ ∃ (x7 : Int32) (H6 : JHp), jok (jprog G) 316 [jR this] H3 (.inl (some (jI x7))) H6 ∧
  ∃ (a8 : Nat) (fs9 : List JVal), this = some a8 ∧ job H6 a8 3 fs9 ∧ /- X3_ends -/ ∃ (x11 : Int32) (H10 : JHp), jok (jprog G) 322 [jR this, jI x7] H6 (.inl (some (jI x11))) H10 ∧
  Rt (.inl (some (jI x11))) H10) :
  jwp (jprog G) 374 Rt 0 [some (jR this)] [] H :=
  junf_wp (jprog_nf G) (stop := jmem []) (pX3_end G) 4000 _ _ _ _ h
/-- UnheardBellsModel hour()I @0 -/
theorem gX3_hour_0 (G : JG) {Rt : JRt} (this : Option Nat) {H : JHp} (h :
  ∃ (a1 : Nat) (fs2 : List JVal), this = some a1 ∧ job H a1 3 fs2 ∧ /- X3_begins -/ ∃ H3 : JHp, jok (jprog G) 293 [jR this] H (.inl none) H3 ∧
  ∃ (a4 : Nat) (fs5 : List JVal), this = some a4 ∧ job H3 a4 3 fs5 ∧ /- X3_hours -/ ∃ (x7 : Int32) (H6 : JHp), jok (jprog G) 315 [jR this] H3 (.inl (some (jI x7))) H6 ∧
  ∃ (a8 : Nat) (fs9 : List JVal), this = some a8 ∧ job H6 a8 3 fs9 ∧ /- X3_ends -/ ∃ (x11 : Int32) (H10 : JHp), jok (jprog G) 322 [jR this, jI x7] H6 (.inl (some (jI x11))) H10 ∧
  Rt (.inl (some (jI x11))) H10) :
  jwp (jprog G) 376 Rt 0 [some (jR this)] [] H :=
  junf_wp (jprog_nf G) (stop := jmem []) (pX3_hour G) 4000 _ _ _ _ h
/-- UnheardBellsModel ring()I @0 -/
theorem gX3_ring_0 (G : JG) {Rt : JRt} (this : Option Nat) {H : JHp} (h :
  ∃ (a1 : Nat) (fs2 : List JVal), this = some a1 ∧ job H a1 3 fs2 ∧ /- X3_begins -/ ∃ H3 : JHp, jok (jprog G) 293 [jR this] H (.inl none) H3 ∧
  ∃ (a4 : Nat) (fs5 : List JVal), this = some a4 ∧ job H3 a4 3 fs5 ∧ /- X3_rings -/ ∃ (x7 : Int32) (H6 : JHp), jok (jprog G) 314 [jR this] H3 (.inl (some (jI x7))) H6 ∧
  ∃ (a8 : Nat) (fs9 : List JVal), this = some a8 ∧ job H6 a8 3 fs9 ∧ /- X3_ends -/ ∃ (x11 : Int32) (H10 : JHp), jok (jprog G) 322 [jR this, jI x7] H6 (.inl (some (jI x11))) H10 ∧
  Rt (.inl (some (jI x11))) H10) :
  jwp (jprog G) 378 Rt 0 [some (jR this)] [] H :=
  junf_wp (jprog_nf G) (stop := jmem []) (pX3_ring G) 4000 _ _ _ _ h
/-- UnheardBellsModel cancel(I)I @0 -/
theorem gX3_cancel_0 (G : JG) {Rt : JRt} (this : Option Nat) (i_1 : Int32) {H : JHp} (h :
  ∃ (a1 : Nat) (fs2 : List JVal), this = some a1 ∧ job H a1 3 fs2 ∧ /- X3_begins -/ ∃ H3 : JHp, jok (jprog G) 293 [jR this] H (.inl none) H3 ∧
  ∃ (a4 : Nat) (fs5 : List JVal), this = some a4 ∧ job H3 a4 3 fs5 ∧ /- X3_cancels -/ ∃ (x7 : Int32) (H6 : JHp), jok (jprog G) 318 [jR this, jI i_1] H3 (.inl (some (jI x7))) H6 ∧
  ∃ (a8 : Nat) (fs9 : List JVal), this = some a8 ∧ job H6 a8 3 fs9 ∧ /- X3_ends -/ ∃ (x11 : Int32) (H10 : JHp), jok (jprog G) 322 [jR this, jI x7] H6 (.inl (some (jI x11))) H10 ∧
  Rt (.inl (some (jI x11))) H10) :
  jwp (jprog G) 380 Rt 0 [some (jR this), some (jI i_1)] [] H :=
  junf_wp (jprog_nf G) (stop := jmem []) (pX3_cancel G) 4000 _ _ _ _ h
/-- UnheardBellsModel pull(III)I @0 -/
theorem gX3_pull_0 (G : JG) {Rt : JRt} (this : Option Nat) (i_1 : Int32) (i_2 : Int32) (i_3 : Int32) {H : JHp} (h :
  ∃ (a1 : Nat) (fs2 : List JVal), this = some a1 ∧ job H a1 3 fs2 ∧ /- X3_begins -/ ∃ H3 : JHp, jok (jprog G) 293 [jR this] H (.inl none) H3 ∧
  ∃ (a4 : Nat) (fs5 : List JVal), this = some a4 ∧ job H3 a4 3 fs5 ∧ /- X3_waits -/ ∃ (x7 : Int32) (H6 : JHp), jok (jprog G) 308 [jR this, jI i_1, jI i_2, jI i_3] H3 (.inl (some (jI x7))) H6 ∧
  ∃ (a8 : Nat) (fs9 : List JVal), this = some a8 ∧ job H6 a8 3 fs9 ∧ /- X3_ends -/ ∃ (x11 : Int32) (H10 : JHp), jok (jprog G) 322 [jR this, jI x7] H6 (.inl (some (jI x11))) H10 ∧
  Rt (.inl (some (jI x11))) H10) :
  jwp (jprog G) 382 Rt 0 [some (jR this), some (jI i_1), some (jI i_2), some (jI i_3)] [] H :=
  junf_wp (jprog_nf G) (stop := jmem []) (pX3_pull G) 4000 _ _ _ _ h
/-- UnheardBellsModel ropeOf(II)I @0 -/
theorem gX3_ropeOf_0 (G : JG) {Rt : JRt} (this : Option Nat) (i_1 : Int32) (i_2 : Int32) {H : JHp} (h :
  ∃ (a1 : Nat) (fs2 : List JVal), this = some a1 ∧ job H a1 3 fs2 ∧ /- X3_isRope -/ ∃ (x4 : Int32) (H3 : JHp), jok (jprog G) 223 [jR this, jI i_1] H (.inl (some (jI x4))) H3 ∧
  (¬ x4 = 0 →
    /- X3_isIn -/ ∃ (x6 : Int32) (H5 : JHp), jok (jprog G) 178 [jI i_2, jI 0, jI 5] H3 (.inl (some (jI x6))) H5 ∧
    (x6 = 0 →
      (¬ i_2 = (6 : Int32) →
        Rt (.inl (some (jI (-1012)))) H5) ∧
      (¬ ¬ i_2 = (6 : Int32) →
        ∃ (a7 : Nat) (fs8 : List JVal), this = some a7 ∧ job H5 a7 3 fs8 ∧ /- X3_waitingOf -/ ∃ (x10 : Int32) (H9 : JHp), jok (jprog G) 317 [jR this, jI i_1] H5 (.inl (some (jI x10))) H9 ∧
        Rt (.inl (some (jI x10))) H9)) ∧
    (¬ x6 = 0 →
      ∃ (a11 : Nat) (fs12 : List JVal) (r13 : Option Nat), this = some a11 ∧ job H5 a11 3 fs12 ∧ jn fs12 5 = some (jR r13) ∧
      /- X3_at -/ ∃ (x15 : Int32) (H14 : JHp), jok (jprog G) 121 [jI i_1, jI i_2] H5 (.inl (some (jI x15))) H14 ∧
      ∃ (a16 n17 : Nat) (f18 : Nat → Int32), r13 = some a16 ∧ jar H14 a16 0 (aI n17 f18) ∧ vp_in x15 n17 ∧
      Rt (.inl (some (jI (f18 (x15).toNatClampNeg)))) H14)) ∧
  (¬ ¬ x4 = 0 →
    Rt (.inl (some (jI (-1011)))) H3)) :
  jwp (jprog G) 385 Rt 0 [some (jR this), some (jI i_1), some (jI i_2)] [] H :=
  junf_wp (jprog_nf G) (stop := jmem []) (pX3_ropeOf G) 4000 _ _ _ _ h
/-- UnheardBellsModel oil(II)I @0 -/
theorem gX3_oil_0 (G : JG) {Rt : JRt} (this : Option Nat) (i_1 : Int32) (i_2 : Int32) {H : JHp} (h :
  ∃ (a1 : Nat) (fs2 : List JVal), this = some a1 ∧ job H a1 3 fs2 ∧ /- X3_begins -/ ∃ H3 : JHp, jok (jprog G) 293 [jR this] H (.inl none) H3 ∧
  ∃ (a4 : Nat) (fs5 : List JVal), this = some a4 ∧ job H3 a4 3 fs5 ∧ /- X3_oils -/ ∃ (x7 : Int32) (H6 : JHp), jok (jprog G) 309 [jR this, jI i_1, jI i_2] H3 (.inl (some (jI x7))) H6 ∧
  ∃ (a8 : Nat) (fs9 : List JVal), this = some a8 ∧ job H6 a8 3 fs9 ∧ /- X3_ends -/ ∃ (x11 : Int32) (H10 : JHp), jok (jprog G) 322 [jR this, jI x7] H6 (.inl (some (jI x11))) H10 ∧
  Rt (.inl (some (jI x11))) H10) :
  jwp (jprog G) 387 Rt 0 [some (jR this), some (jI i_1), some (jI i_2)] [] H :=
  junf_wp (jprog_nf G) (stop := jmem []) (pX3_oil G) 4000 _ _ _ _ h
/-- UnheardBellsModel sensor(II)I @0 -/
theorem gX3_sensor_0 (G : JG) {Rt : JRt} (this : Option Nat) (i_1 : Int32) (i_2 : Int32) {H : JHp} (h :
  ∃ (a1 : Nat) (fs2 : List JVal), this = some a1 ∧ job H a1 3 fs2 ∧ /- X3_begins -/ ∃ H3 : JHp, jok (jprog G) 293 [jR this] H (.inl none) H3 ∧
  ∃ (a4 : Nat) (fs5 : List JVal), this = some a4 ∧ job H3 a4 3 fs5 ∧ /- X3_switches -/ ∃ (x7 : Int32) (H6 : JHp), jok (jprog G) 305 [jR this, jI i_1, jI i_2] H3 (.inl (some (jI x7))) H6 ∧
  ∃ (a8 : Nat) (fs9 : List JVal), this = some a8 ∧ job H6 a8 3 fs9 ∧ /- X3_ends -/ ∃ (x11 : Int32) (H10 : JHp), jok (jprog G) 322 [jR this, jI x7] H6 (.inl (some (jI x11))) H10 ∧
  Rt (.inl (some (jI x11))) H10) :
  jwp (jprog G) 389 Rt 0 [some (jR this), some (jI i_1), some (jI i_2)] [] H :=
  junf_wp (jprog_nf G) (stop := jmem []) (pX3_sensor G) 4000 _ _ _ _ h
/-- UnheardBellsModel move(II)I @0 -/
theorem gX3_move_0 (G : JG) {Rt : JRt} (this : Option Nat) (i_1 : Int32) (i_2 : Int32) {H : JHp} (h :
  ∃ (a1 : Nat) (fs2 : List JVal), this = some a1 ∧ job H a1 3 fs2 ∧ /- X3_begins -/ ∃ H3 : JHp, jok (jprog G) 293 [jR this] H (.inl none) H3 ∧
  ∃ (a4 : Nat) (fs5 : List JVal), this = some a4 ∧ job H3 a4 3 fs5 ∧ /- X3_moves -/ ∃ (x7 : Int32) (H6 : JHp), jok (jprog G) 304 [jR this, jI i_1, jI i_2] H3 (.inl (some (jI x7))) H6 ∧
  ∃ (a8 : Nat) (fs9 : List JVal), this = some a8 ∧ job H6 a8 3 fs9 ∧ /- X3_ends -/ ∃ (x11 : Int32) (H10 : JHp), jok (jprog G) 322 [jR this, jI x7] H6 (.inl (some (jI x11))) H10 ∧
  Rt (.inl (some (jI x11))) H10) :
  jwp (jprog G) 391 Rt 0 [some (jR this), some (jI i_1), some (jI i_2)] [] H :=
  junf_wp (jprog_nf G) (stop := jmem []) (pX3_move G) 4000 _ _ _ _ h
/-- UnheardBellsModel rope(I)I @0 -/
theorem gX3_rope_0 (G : JG) {Rt : JRt} (this : Option Nat) (i_1 : Int32) {H : JHp} (h :
  ∃ (a1 : Nat) (fs2 : List JVal), this = some a1 ∧ job H a1 3 fs2 ∧ /- X3_begins -/ ∃ H3 : JHp, jok (jprog G) 293 [jR this] H (.inl none) H3 ∧
  ∃ (a4 : Nat) (fs5 : List JVal), this = some a4 ∧ job H3 a4 3 fs5 ∧ /- X3_comes -/ ∃ (x7 : Int32) (H6 : JHp), jok (jprog G) 306 [jR this, jI i_1] H3 (.inl (some (jI x7))) H6 ∧
  ∃ (a8 : Nat) (fs9 : List JVal), this = some a8 ∧ job H6 a8 3 fs9 ∧ /- X3_ends -/ ∃ (x11 : Int32) (H10 : JHp), jok (jprog G) 322 [jR this, jI x7] H6 (.inl (some (jI x11))) H10 ∧
  Rt (.inl (some (jI x11))) H10) :
  jwp (jprog G) 393 Rt 0 [some (jR this), some (jI i_1)] [] H :=
  junf_wp (jprog_nf G) (stop := jmem []) (pX3_rope G) 4000 _ _ _ _ h

/-! INSTRUCTIONS: what each asks, and that it asks it in normal form -/
def o_push (v : JVal) (n : Nat) : JIns := fun _ K _ pc L S H => K (pc + n) L (v :: S) H
theorem nf_push (v : JVal) (n : Nat) : jNF (o_push v n) := jNF.k fun C K Rt pc L S H h => ⟨_, _, _, _, h, Nat.le_refl _, fun _ _ _ h => h⟩
def o_iload (k n : Nat) : JIns := fun _ K _ pc L S H => match jn L k with
  | some (some (.inl x)) => K (pc + n) L (jI x :: S) H
  | _ => False
theorem nf_iload (k n : Nat) : jNF (o_iload k n) := jNF.k fun C K Rt pc L S H h => by
  unfold o_iload at h ⊢
  split at h
  next x e => exact ⟨_, _, _, _, h, Nat.le_refl _, fun _ _ _ h => h⟩
  next => exact h.elim
def o_istore (k n : Nat) : JIns := fun _ K _ pc L S H => match S with
  | .inl x :: S' => K (pc + n) (jput L k (jI x)) S' H
  | _ => False
theorem nf_istore (k n : Nat) : jNF (o_istore k n) := jNF.k fun C K Rt pc L S H h => by
  unfold o_istore at h ⊢
  split at h
  next x S' => exact ⟨_, _, _, _, h, Nat.le_refl _, fun _ _ _ h => h⟩
  next => exact h.elim
def o_aload (k n : Nat) : JIns := fun _ K _ pc L S H => match jn L k with
  | some (some (.inr (.inl x))) => K (pc + n) L (jR x :: S) H
  | _ => False
theorem nf_aload (k n : Nat) : jNF (o_aload k n) := jNF.k fun C K Rt pc L S H h => by
  unfold o_aload at h ⊢
  split at h
  next x e => exact ⟨_, _, _, _, h, Nat.le_refl _, fun _ _ _ h => h⟩
  next => exact h.elim
def o_astore (k n : Nat) : JIns := fun _ K _ pc L S H => match S with
  | .inr (.inl x) :: S' => K (pc + n) (jput L k (jR x)) S' H
  | _ => False
theorem nf_astore (k n : Nat) : jNF (o_astore k n) := jNF.k fun C K Rt pc L S H h => by
  unfold o_astore at h ⊢
  split at h
  next x S' => exact ⟨_, _, _, _, h, Nat.le_refl _, fun _ _ _ h => h⟩
  next => exact h.elim
def o_lload (k n : Nat) : JIns := fun _ K _ pc L S H => match jn L k with
  | some (some (.inr (.inr (.inl x)))) => K (pc + n) L (jL x :: S) H
  | _ => False
theorem nf_lload (k n : Nat) : jNF (o_lload k n) := jNF.k fun C K Rt pc L S H h => by
  unfold o_lload at h ⊢
  split at h
  next x e => exact ⟨_, _, _, _, h, Nat.le_refl _, fun _ _ _ h => h⟩
  next => exact h.elim
def o_lstore (k n : Nat) : JIns := fun _ K _ pc L S H => match S with
  | .inr (.inr (.inl x)) :: S' => K (pc + n) (jput2 L k (jL x)) S' H
  | _ => False
theorem nf_lstore (k n : Nat) : jNF (o_lstore k n) := jNF.k fun C K Rt pc L S H h => by
  unfold o_lstore at h ⊢
  split at h
  next x S' => exact ⟨_, _, _, _, h, Nat.le_refl _, fun _ _ _ h => h⟩
  next => exact h.elim
def o_iinc (k : Nat) (d : Int32) : JIns := fun _ K _ pc L S H => match jn L k with
  | some (some (.inl x)) => K (pc + 3) (jput L k (jI (x + d))) S H
  | _ => False
theorem nf_iinc (k : Nat) (d : Int32) : jNF (o_iinc k d) := jNF.k fun C K Rt pc L S H h => by
  unfold o_iinc at h ⊢
  split at h
  next x e => exact ⟨_, _, _, _, h, Nat.le_refl _, fun _ _ _ h => h⟩
  next => exact h.elim
def o_bin (f : Int32 → Int32 → Int32) : JIns := fun _ K _ pc L S H => match S with
  | .inl y :: .inl x :: S' => K (pc + 1) L (jI (f x y) :: S') H
  | _ => False
theorem nf_bin (f : Int32 → Int32 → Int32) : jNF (o_bin f) := jNF.k fun C K Rt pc L S H h => by
  unfold o_bin at h ⊢
  split at h
  next => exact ⟨_, _, _, _, h, Nat.le_refl _, fun _ _ _ h9 => h9⟩
  next => exact h.elim
def o_div (f : Int32 → Int32 → Int32) : JIns := fun _ K _ pc L S H => match S with
  | .inl y :: .inl x :: S' => ¬ y = 0 ∧ K (pc + 1) L (jI (f x y) :: S') H
  | _ => False
theorem nf_div (f : Int32 → Int32 → Int32) : jNF (o_div f) := jNF.k fun C K Rt pc L S H h => by
  unfold o_div at h ⊢
  split at h
  next => exact ⟨_, _, _, _, h.2, Nat.le_refl _, fun _ _ _ h9 => ⟨h.1, h9⟩⟩
  next => exact h.elim
def o_un (f : Int32 → Int32) : JIns := fun _ K _ pc L S H => match S with
  | .inl x :: S' => K (pc + 1) L (jI (f x) :: S') H
  | _ => False
theorem nf_un (f : Int32 → Int32) : jNF (o_un f) := jNF.k fun C K Rt pc L S H h => by
  unfold o_un at h ⊢
  split at h
  next => exact ⟨_, _, _, _, h, Nat.le_refl _, fun _ _ _ h9 => h9⟩
  next => exact h.elim
def o_lbin (f : Int64 → Int64 → Int64) : JIns := fun _ K _ pc L S H => match S with
  | .inr (.inr (.inl y)) :: .inr (.inr (.inl x)) :: S' => K (pc + 1) L (jL (f x y) :: S') H
  | _ => False
theorem nf_lbin (f : Int64 → Int64 → Int64) : jNF (o_lbin f) := jNF.k fun C K Rt pc L S H h => by
  unfold o_lbin at h ⊢
  split at h
  next => exact ⟨_, _, _, _, h, Nat.le_refl _, fun _ _ _ h9 => h9⟩
  next => exact h.elim
def o_lsh (f : Int64 → Int32 → Int64) : JIns := fun _ K _ pc L S H => match S with
  | .inl y :: .inr (.inr (.inl x)) :: S' => K (pc + 1) L (jL (f x y) :: S') H
  | _ => False
theorem nf_lsh (f : Int64 → Int32 → Int64) : jNF (o_lsh f) := jNF.k fun C K Rt pc L S H h => by
  unfold o_lsh at h ⊢
  split at h
  next => exact ⟨_, _, _, _, h, Nat.le_refl _, fun _ _ _ h9 => h9⟩
  next => exact h.elim
def o_lcmp : JIns := fun _ K _ pc L S H => match S with
  | .inr (.inr (.inl y)) :: .inr (.inr (.inl x)) :: S' => K (pc + 1) L (jI (lg_cmp x y) :: S') H
  | _ => False
theorem nf_lcmp : jNF (o_lcmp ) := jNF.k fun C K Rt pc L S H h => by
  unfold o_lcmp at h ⊢
  split at h
  next => exact ⟨_, _, _, _, h, Nat.le_refl _, fun _ _ _ h9 => h9⟩
  next => exact h.elim
def o_i2l : JIns := fun _ K _ pc L S H => match S with
  | .inl x :: S' => K (pc + 1) L (jL x.toInt64 :: S') H
  | _ => False
theorem nf_i2l : jNF (o_i2l ) := jNF.k fun C K Rt pc L S H h => by
  unfold o_i2l at h ⊢
  split at h
  next => exact ⟨_, _, _, _, h, Nat.le_refl _, fun _ _ _ h9 => h9⟩
  next => exact h.elim
def o_l2i : JIns := fun _ K _ pc L S H => match S with
  | .inr (.inr (.inl x)) :: S' => K (pc + 1) L (jI x.toInt32 :: S') H
  | _ => False
theorem nf_l2i : jNF (o_l2i ) := jNF.k fun C K Rt pc L S H h => by
  unfold o_l2i at h ⊢
  split at h
  next => exact ⟨_, _, _, _, h, Nat.le_refl _, fun _ _ _ h9 => h9⟩
  next => exact h.elim
def o_i2d : JIns := fun _ K _ pc L S H => match S with
  | .inl x :: S' => K (pc + 1) L (jD (FP.i2d x) :: S') H
  | _ => False
theorem nf_i2d : jNF (o_i2d ) := jNF.k fun C K Rt pc L S H h => by
  unfold o_i2d at h ⊢
  split at h
  next => exact ⟨_, _, _, _, h, Nat.le_refl _, fun _ _ _ h9 => h9⟩
  next => exact h.elim
def o_i2f : JIns := fun _ K _ pc L S H => match S with
  | .inl x :: S' => K (pc + 1) L (jF (FP.i2f x) :: S') H
  | _ => False
theorem nf_i2f : jNF (o_i2f ) := jNF.k fun C K Rt pc L S H h => by
  unfold o_i2f at h ⊢
  split at h
  next => exact ⟨_, _, _, _, h, Nat.le_refl _, fun _ _ _ h9 => h9⟩
  next => exact h.elim
def o_f2d : JIns := fun _ K _ pc L S H => match S with
  | .inr (.inr (.inr (.inl x))) :: S' => vf_n64 (FP.f2d x) ∧ K (pc + 1) L (jD (FP.f2d x) :: S') H
  | _ => False
theorem nf_f2d : jNF (o_f2d ) := jNF.k fun C K Rt pc L S H h => by
  unfold o_f2d at h ⊢
  split at h
  next => exact ⟨_, _, _, _, h.2, Nat.le_refl _, fun _ _ _ h9 => ⟨h.1, h9⟩⟩
  next => exact h.elim
def o_ddiv : JIns := fun _ K _ pc L S H => match S with
  | .inr (.inr (.inr (.inr y))) :: .inr (.inr (.inr (.inr x))) :: S' => vf_n64 (FP.ddiv x y) ∧ K (pc + 1) L (jD (FP.ddiv x y) :: S') H
  | _ => False
theorem nf_ddiv : jNF (o_ddiv ) := jNF.k fun C K Rt pc L S H h => by
  unfold o_ddiv at h ⊢
  split at h
  next => exact ⟨_, _, _, _, h.2, Nat.le_refl _, fun _ _ _ h9 => ⟨h.1, h9⟩⟩
  next => exact h.elim
def o_fdiv : JIns := fun _ K _ pc L S H => match S with
  | .inr (.inr (.inr (.inl y))) :: .inr (.inr (.inr (.inl x))) :: S' => vf_n32 (FP.fdiv x y) ∧ K (pc + 1) L (jF (FP.fdiv x y) :: S') H
  | _ => False
theorem nf_fdiv : jNF (o_fdiv ) := jNF.k fun C K Rt pc L S H h => by
  unfold o_fdiv at h ⊢
  split at h
  next => exact ⟨_, _, _, _, h.2, Nat.le_refl _, fun _ _ _ h9 => ⟨h.1, h9⟩⟩
  next => exact h.elim
def o_dup : JIns := fun _ K _ pc L S H => match S with
  | a :: S' => bif Nat.beq (jW a) 1 then K (pc + 1) L (a :: a :: S') H else False
  | _ => False
theorem nf_dup : jNF o_dup := jNF.k fun C K Rt pc L S H h => by
  unfold o_dup at h ⊢
  split at h
  next a S' =>
    cases ea : Nat.beq (jW a) 1 with
    | false => rw [ea] at h; exact h.elim
    | true =>
      rw [ea] at h
      exact ⟨_, _, _, _, h, Nat.le_refl _, fun _ _ _ h => by simp only [ea, cond_true]; exact h⟩
  next => exact h.elim
def o_pop : JIns := fun _ K _ pc L S H => match S with
  | a :: S' => bif Nat.beq (jW a) 1 then K (pc + 1) L (S') H else False
  | _ => False
theorem nf_pop : jNF o_pop := jNF.k fun C K Rt pc L S H h => by
  unfold o_pop at h ⊢
  split at h
  next a S' =>
    cases ea : Nat.beq (jW a) 1 with
    | false => rw [ea] at h; exact h.elim
    | true =>
      rw [ea] at h
      exact ⟨_, _, _, _, h, Nat.le_refl _, fun _ _ _ h => by simp only [ea, cond_true]; exact h⟩
  next => exact h.elim
def o_dupx1 : JIns := fun _ K _ pc L S H => match S with
  | a :: b :: S' => bif Nat.beq (jW a) 1 then bif Nat.beq (jW b) 1 then K (pc + 1) L (a :: b :: a :: S') H else False else False
  | _ => False
theorem nf_dupx1 : jNF o_dupx1 := jNF.k fun C K Rt pc L S H h => by
  unfold o_dupx1 at h ⊢
  split at h
  next a b S' =>
    cases ea : Nat.beq (jW a) 1 with
    | false => rw [ea] at h; exact h.elim
    | true =>
      rw [ea] at h
      cases eb : Nat.beq (jW b) 1 with
      | false => rw [eb] at h; exact h.elim
      | true =>
        rw [eb] at h
        exact ⟨_, _, _, _, h, Nat.le_refl _, fun _ _ _ h => by simp only [ea, eb, cond_true]; exact h⟩
  next => exact h.elim
def o_dup2 : JIns := fun _ K _ pc L S H => match S with
  | a :: b :: S' => bif Nat.beq (jW a) 1 then bif Nat.beq (jW b) 1 then K (pc + 1) L (a :: b :: a :: b :: S') H else False else False
  | _ => False
theorem nf_dup2 : jNF o_dup2 := jNF.k fun C K Rt pc L S H h => by
  unfold o_dup2 at h ⊢
  split at h
  next a b S' =>
    cases ea : Nat.beq (jW a) 1 with
    | false => rw [ea] at h; exact h.elim
    | true =>
      rw [ea] at h
      cases eb : Nat.beq (jW b) 1 with
      | false => rw [eb] at h; exact h.elim
      | true =>
        rw [eb] at h
        exact ⟨_, _, _, _, h, Nat.le_refl _, fun _ _ _ h => by simp only [ea, eb, cond_true]; exact h⟩
  next => exact h.elim
def o_if (q : Int32 → Prop) (tgt : Nat) : JIns := fun _ K _ pc L S H => match S with
  | .inl x :: S' => (q x → K tgt L S' H) ∧ (¬ q x → K (pc + 3) L S' H)
  | _ => False
theorem nf_if (q : Int32 → Prop) (tgt : Nat) : jNF (o_if q tgt) := jNF.k fun C K Rt pc L S H h => by
  unfold o_if at h ⊢
  split at h
  next x S' =>
    by_cases hq : q x
    · exact ⟨_, _, _, _, h.1 hq, Nat.le_refl _, fun _ _ _ h9 => ⟨fun _ => h9, fun hn => absurd hq hn⟩⟩
    · exact ⟨_, _, _, _, h.2 hq, Nat.le_refl _, fun _ _ _ h9 => ⟨fun hp => absurd hp hq, fun _ => h9⟩⟩
  next => exact h.elim
def o_icmp (q : Int32 → Int32 → Prop) (tgt : Nat) : JIns := fun _ K _ pc L S H => match S with
  | .inl y :: .inl x :: S' => (q x y → K tgt L S' H) ∧ (¬ q x y → K (pc + 3) L S' H)
  | _ => False
theorem nf_icmp (q : Int32 → Int32 → Prop) (tgt : Nat) : jNF (o_icmp q tgt) := jNF.k fun C K Rt pc L S H h => by
  unfold o_icmp at h ⊢
  split at h
  next y x S' =>
    by_cases hq : q x y
    · exact ⟨_, _, _, _, h.1 hq, Nat.le_refl _, fun _ _ _ h9 => ⟨fun _ => h9, fun hn => absurd hq hn⟩⟩
    · exact ⟨_, _, _, _, h.2 hq, Nat.le_refl _, fun _ _ _ h9 => ⟨fun hp => absurd hp hq, fun _ => h9⟩⟩
  next => exact h.elim
def o_acmp  (tgt : Nat) : JIns := fun _ K _ pc L S H => match S with
  | .inr (.inl y) :: .inr (.inl x) :: S' => (x = y → K tgt L S' H) ∧ (¬ x = y → K (pc + 3) L S' H)
  | _ => False
theorem nf_acmp  (tgt : Nat) : jNF (o_acmp  tgt) := jNF.k fun C K Rt pc L S H h => by
  unfold o_acmp at h ⊢
  split at h
  next y x S' =>
    by_cases hq : x = y
    · exact ⟨_, _, _, _, h.1 hq, Nat.le_refl _, fun _ _ _ h9 => ⟨fun _ => h9, fun hn => absurd hq hn⟩⟩
    · exact ⟨_, _, _, _, h.2 hq, Nat.le_refl _, fun _ _ _ h9 => ⟨fun hp => absurd hp hq, fun _ => h9⟩⟩
  next => exact h.elim
def o_acmpn  (tgt : Nat) : JIns := fun _ K _ pc L S H => match S with
  | .inr (.inl y) :: .inr (.inl x) :: S' => ((¬ x = y) → K tgt L S' H) ∧ (¬ (¬ x = y) → K (pc + 3) L S' H)
  | _ => False
theorem nf_acmpn  (tgt : Nat) : jNF (o_acmpn  tgt) := jNF.k fun C K Rt pc L S H h => by
  unfold o_acmpn at h ⊢
  split at h
  next y x S' =>
    by_cases hq : (¬ x = y)
    · exact ⟨_, _, _, _, h.1 hq, Nat.le_refl _, fun _ _ _ h9 => ⟨fun _ => h9, fun hn => absurd hq hn⟩⟩
    · exact ⟨_, _, _, _, h.2 hq, Nat.le_refl _, fun _ _ _ h9 => ⟨fun hp => absurd hp hq, fun _ => h9⟩⟩
  next => exact h.elim
def o_ifnull  (tgt : Nat) : JIns := fun _ K _ pc L S H => match S with
  | .inr (.inl x) :: S' => (x = none → K tgt L S' H) ∧ (¬ x = none → K (pc + 3) L S' H)
  | _ => False
theorem nf_ifnull  (tgt : Nat) : jNF (o_ifnull  tgt) := jNF.k fun C K Rt pc L S H h => by
  unfold o_ifnull at h ⊢
  split at h
  next x S' =>
    by_cases hq : x = none
    · exact ⟨_, _, _, _, h.1 hq, Nat.le_refl _, fun _ _ _ h9 => ⟨fun _ => h9, fun hn => absurd hq hn⟩⟩
    · exact ⟨_, _, _, _, h.2 hq, Nat.le_refl _, fun _ _ _ h9 => ⟨fun hp => absurd hp hq, fun _ => h9⟩⟩
  next => exact h.elim
def o_ifnonnull  (tgt : Nat) : JIns := fun _ K _ pc L S H => match S with
  | .inr (.inl x) :: S' => ((¬ x = none) → K tgt L S' H) ∧ (¬ (¬ x = none) → K (pc + 3) L S' H)
  | _ => False
theorem nf_ifnonnull  (tgt : Nat) : jNF (o_ifnonnull  tgt) := jNF.k fun C K Rt pc L S H h => by
  unfold o_ifnonnull at h ⊢
  split at h
  next x S' =>
    by_cases hq : (¬ x = none)
    · exact ⟨_, _, _, _, h.1 hq, Nat.le_refl _, fun _ _ _ h9 => ⟨fun _ => h9, fun hn => absurd hq hn⟩⟩
    · exact ⟨_, _, _, _, h.2 hq, Nat.le_refl _, fun _ _ _ h9 => ⟨fun hp => absurd hp hq, fun _ => h9⟩⟩
  next => exact h.elim
def o_goto (tgt : Nat) : JIns := fun _ K _ _ L S H => K tgt L S H
theorem nf_goto (tgt : Nat) : jNF (o_goto tgt) := jNF.k fun C K Rt pc L S H h => ⟨_, _, _, _, h, Nat.le_refl _, fun _ _ _ h => h⟩
def jcases (x : Int32) (K : Nat → Prop) (d : Nat) : List (Int32 × Nat) → Prop
  | [] => K d
  | q :: l => (x = q.1 → K q.2) ∧ (¬ x = q.1 → jcases x K d l)
theorem jcases_one {x : Int32} {K : Nat → Prop} {d : Nat} : ∀ {l : List (Int32 × Nat)}, jcases x K d l → ∃ t, K t ∧ ∀ K' : Nat → Prop, K' t → jcases x K' d l := by
  intro l
  induction l with
  | nil => intro h; exact ⟨d, h, fun _ h => h⟩
  | cons q l ih =>
    intro h
    by_cases e : x = q.1
    · exact ⟨_, h.1 e, fun K' h9 => ⟨fun _ => h9, fun n => absurd e n⟩⟩
    · obtain ⟨t, h1, h2⟩ := ih (h.2 e)
      exact ⟨t, h1, fun K' h9 => ⟨fun n => absurd n e, fun _ => h2 K' h9⟩⟩
def o_switch (l : List (Int32 × Nat)) (d : Nat) : JIns := fun _ K _ _ L S H => match S with
  | .inl x :: S' => jcases x (fun t => K t L S' H) d l
  | _ => False
theorem nf_switch (l : List (Int32 × Nat)) (d : Nat) : jNF (o_switch l d) := jNF.k fun C K Rt pc L S H h => by
  unfold o_switch at h ⊢
  split at h
  next x S' =>
    obtain ⟨t, h1, h2⟩ := jcases_one h
    exact ⟨t, L, S', H, h1, Nat.le_refl _, fun _ K' _ h9 => h2 (fun t => K' t L S' H) h9⟩
  next => exact h.elim
def o_vret : JIns := fun _ _ Rt _ _ S H => match S with
  | [] => Rt (.inl none) H
  | _ => False
theorem nf_vret : jNF o_vret := jNF.r fun C K Rt pc L S H h => by
  unfold o_vret at h ⊢
  split at h
  next => exact ⟨_, h, fun _ _ _ h => h⟩
  next => exact h.elim
def o_iret : JIns := fun _ _ Rt _ _ S H => match S with
  | [.inl x] => Rt (.inl (some (jI x))) H
  | _ => False
theorem nf_iret : jNF o_iret := jNF.r fun C K Rt pc L S H h => by
  unfold o_iret at h ⊢
  split at h
  next => exact ⟨_, h, fun _ _ _ h => h⟩
  next => exact h.elim
def o_rret : JIns := fun _ _ Rt _ _ S H => match S with
  | [.inr (.inl x)] => Rt (.inl (some (jR x))) H
  | _ => False
theorem nf_rret : jNF o_rret := jNF.r fun C K Rt pc L S H h => by
  unfold o_rret at h ⊢
  split at h
  next => exact ⟨_, h, fun _ _ _ h => h⟩
  next => exact h.elim
def o_lret : JIns := fun _ _ Rt _ _ S H => match S with
  | [.inr (.inr (.inl x))] => Rt (.inl (some (jL x))) H
  | _ => False
theorem nf_lret : jNF o_lret := jNF.r fun C K Rt pc L S H h => by
  unfold o_lret at h ⊢
  split at h
  next => exact ⟨_, h, fun _ _ _ h => h⟩
  next => exact h.elim
def o_fret : JIns := fun _ _ Rt _ _ S H => match S with
  | [.inr (.inr (.inr (.inl x)))] => Rt (.inl (some (jF x))) H
  | _ => False
theorem nf_fret : jNF o_fret := jNF.r fun C K Rt pc L S H h => by
  unfold o_fret at h ⊢
  split at h
  next => exact ⟨_, h, fun _ _ _ h => h⟩
  next => exact h.elim
def o_dret : JIns := fun _ _ Rt _ _ S H => match S with
  | [.inr (.inr (.inr (.inr x)))] => Rt (.inl (some (jD x))) H
  | _ => False
theorem nf_dret : jNF o_dret := jNF.r fun C K Rt pc L S H h => by
  unfold o_dret at h ⊢
  split at h
  next => exact ⟨_, h, fun _ _ _ h => h⟩
  next => exact h.elim
/-- an answer of a narrow type -/
def o_nret (q : Int32 → Prop) : JIns := fun _ _ Rt _ _ S H => match S with
  | [.inl x] => q x ∧ Rt (.inl (some (jI x))) H
  | _ => False
theorem nf_nret (q : Int32 → Prop) : jNF (o_nret q) := jNF.r fun C K Rt pc L S H h => by
  unfold o_nret at h ⊢
  split at h
  next => exact ⟨_, h.2, fun _ _ _ h9 => ⟨h.1, h9⟩⟩
  next => exact h.elim
def jbool (x : Int32) : Prop := x = 0 ∨ x = 1
def jbyte (x : Int32) : Prop := x.toInt8.toInt32 = x
def jchar (x : Int32) : Prop := (x.toUInt32 % 65536).toInt32 = x
def o_getfi (c k : Nat) : JIns := fun _ K _ pc L S H => match S with
  | .inr (.inl r) :: S' => ∃ (a : Nat) (fs : List JVal) (x : Int32), r = some a ∧ job H a c fs ∧ jn fs k = some (jI x) ∧ K (pc + 3) L (jI x :: S') H
  | _ => False
theorem nf_getfi (c k : Nat) : jNF (o_getfi c k) := jNF.k fun C K Rt pc L S H h => by
  unfold o_getfi at h ⊢
  split at h
  next =>
    obtain ⟨a, fs, x, h1, h2, h3, h4⟩ := h
    exact ⟨_, _, _, _, h4, Nat.le_refl _, fun _ _ _ h9 => ⟨a, fs, x, h1, h2, h3, h9⟩⟩
  next => exact h.elim
def o_getfr (c k : Nat) : JIns := fun _ K _ pc L S H => match S with
  | .inr (.inl r) :: S' => ∃ (a : Nat) (fs : List JVal) (x : Option Nat), r = some a ∧ job H a c fs ∧ jn fs k = some (jR x) ∧ K (pc + 3) L (jR x :: S') H
  | _ => False
theorem nf_getfr (c k : Nat) : jNF (o_getfr c k) := jNF.k fun C K Rt pc L S H h => by
  unfold o_getfr at h ⊢
  split at h
  next =>
    obtain ⟨a, fs, x, h1, h2, h3, h4⟩ := h
    exact ⟨_, _, _, _, h4, Nat.le_refl _, fun _ _ _ h9 => ⟨a, fs, x, h1, h2, h3, h9⟩⟩
  next => exact h.elim
def o_getfl (c k : Nat) : JIns := fun _ K _ pc L S H => match S with
  | .inr (.inl r) :: S' => ∃ (a : Nat) (fs : List JVal) (x : Int64), r = some a ∧ job H a c fs ∧ jn fs k = some (jL x) ∧ K (pc + 3) L (jL x :: S') H
  | _ => False
theorem nf_getfl (c k : Nat) : jNF (o_getfl c k) := jNF.k fun C K Rt pc L S H h => by
  unfold o_getfl at h ⊢
  split at h
  next =>
    obtain ⟨a, fs, x, h1, h2, h3, h4⟩ := h
    exact ⟨_, _, _, _, h4, Nat.le_refl _, fun _ _ _ h9 => ⟨a, fs, x, h1, h2, h3, h9⟩⟩
  next => exact h.elim
def o_putfi (c k : Nat) : JIns := fun _ K _ pc L S H => match S with
  | .inl x :: .inr (.inl r) :: S' => ∃ (a : Nat) (fs : List JVal) (v : JVal), r = some a ∧ H.1 a = some (true, jO c fs) ∧ jn fs k = some v ∧ K (pc + 3) L S' (jup H a (jO c (jset fs k (jI x))))
  | _ => False
theorem nf_putfi (c k : Nat) : jNF (o_putfi c k) := jNF.k fun C K Rt pc L S H h => by
  unfold o_putfi at h ⊢
  split at h
  next =>
    obtain ⟨a, fs, x, h1, h2, h3, h4⟩ := h
    exact ⟨_, _, _, _, h4, Nat.le_refl _, fun _ _ _ h9 => ⟨a, fs, x, h1, h2, h3, h9⟩⟩
  next => exact h.elim
def o_putfr (c k : Nat) : JIns := fun _ K _ pc L S H => match S with
  | .inr (.inl x) :: .inr (.inl r) :: S' => ∃ (a : Nat) (fs : List JVal) (v : JVal), r = some a ∧ H.1 a = some (true, jO c fs) ∧ jn fs k = some v ∧ K (pc + 3) L S' (jup H a (jO c (jset fs k (jR x))))
  | _ => False
theorem nf_putfr (c k : Nat) : jNF (o_putfr c k) := jNF.k fun C K Rt pc L S H h => by
  unfold o_putfr at h ⊢
  split at h
  next =>
    obtain ⟨a, fs, x, h1, h2, h3, h4⟩ := h
    exact ⟨_, _, _, _, h4, Nat.le_refl _, fun _ _ _ h9 => ⟨a, fs, x, h1, h2, h3, h9⟩⟩
  next => exact h.elim
def o_putfl (c k : Nat) : JIns := fun _ K _ pc L S H => match S with
  | .inr (.inr (.inl x)) :: .inr (.inl r) :: S' => ∃ (a : Nat) (fs : List JVal) (v : JVal), r = some a ∧ H.1 a = some (true, jO c fs) ∧ jn fs k = some v ∧ K (pc + 3) L S' (jup H a (jO c (jset fs k (jL x))))
  | _ => False
theorem nf_putfl (c k : Nat) : jNF (o_putfl c k) := jNF.k fun C K Rt pc L S H h => by
  unfold o_putfl at h ⊢
  split at h
  next =>
    obtain ⟨a, fs, x, h1, h2, h3, h4⟩ := h
    exact ⟨_, _, _, _, h4, Nat.le_refl _, fun _ _ _ h9 => ⟨a, fs, x, h1, h2, h3, h9⟩⟩
  next => exact h.elim
def o_putfn (q : Int32 → Prop) (c k : Nat) : JIns := fun _ K _ pc L S H => match S with
  | .inl x :: .inr (.inl r) :: S' => q x ∧ ∃ (a : Nat) (fs : List JVal) (v : JVal), r = some a ∧ H.1 a = some (true, jO c fs) ∧ jn fs k = some v ∧ K (pc + 3) L S' (jup H a (jO c (jset fs k (jI x))))
  | _ => False
theorem nf_putfn (q : Int32 → Prop) (c k : Nat) : jNF (o_putfn q c k) := jNF.k fun C K Rt pc L S H h => by
  unfold o_putfn at h ⊢
  split at h
  next =>
    obtain ⟨h0, a, fs, x, h1, h2, h3, h4⟩ := h
    exact ⟨_, _, _, _, h4, Nat.le_refl _, fun _ _ _ h9 => ⟨h0, a, fs, x, h1, h2, h3, h9⟩⟩
  next => exact h.elim
/-- an object of a class of the tables -/
def jobn (H : JHp) (b : Nat) : Prop := ∃ (c : Nat) (fs : List JVal), job H b c fs ∧ c < 900
def o_iald (k : Nat) : JIns := fun _ K _ pc L S H => match S with
  | .inl i :: .inr (.inl r) :: S' => ∃ (a n : Nat) (f : Nat → Int32), r = some a ∧ jar H a k (aI n f) ∧ vp_in i n ∧ K (pc + 1) L (jI (f i.toNatClampNeg) :: S') H
  | _ => False
theorem nf_iald (k : Nat) : jNF (o_iald k) := jNF.k fun C K Rt pc L S H h => by
  unfold o_iald at h ⊢
  split at h
  next =>
    obtain ⟨a, n, f, h1, h2, h3, h4⟩ := h
    exact ⟨_, _, _, _, h4, Nat.le_refl _, fun _ _ _ h9 => ⟨a, n, f, h1, h2, h3, h9⟩⟩
  next => exact h.elim
def o_lald (k : Nat) : JIns := fun _ K _ pc L S H => match S with
  | .inl i :: .inr (.inl r) :: S' => ∃ (a n : Nat) (f : Nat → Int64), r = some a ∧ jar H a k (aL n f) ∧ vp_in i n ∧ K (pc + 1) L (jL (f i.toNatClampNeg) :: S') H
  | _ => False
theorem nf_lald (k : Nat) : jNF (o_lald k) := jNF.k fun C K Rt pc L S H h => by
  unfold o_lald at h ⊢
  split at h
  next =>
    obtain ⟨a, n, f, h1, h2, h3, h4⟩ := h
    exact ⟨_, _, _, _, h4, Nat.le_refl _, fun _ _ _ h9 => ⟨a, n, f, h1, h2, h3, h9⟩⟩
  next => exact h.elim
def o_rald (k : Nat) : JIns := fun _ K _ pc L S H => match S with
  | .inl i :: .inr (.inl r) :: S' => ∃ (a n : Nat) (f : Nat → Option Nat), r = some a ∧ jar H a k (aR n f) ∧ vp_in i n ∧ K (pc + 1) L (jR (f i.toNatClampNeg) :: S') H
  | _ => False
theorem nf_rald (k : Nat) : jNF (o_rald k) := jNF.k fun C K Rt pc L S H h => by
  unfold o_rald at h ⊢
  split at h
  next =>
    obtain ⟨a, n, f, h1, h2, h3, h4⟩ := h
    exact ⟨_, _, _, _, h4, Nat.le_refl _, fun _ _ _ h9 => ⟨a, n, f, h1, h2, h3, h9⟩⟩
  next => exact h.elim
def o_iast (g : Int32 → Int32) (k : Nat) : JIns := fun _ K _ pc L S H => match S with
  | .inl x :: .inl i :: .inr (.inl r) :: S' => ∃ (a n : Nat) (f : Nat → Int32), r = some a ∧ H.1 a = some (true, jA k (aI n f)) ∧ vp_in i n ∧ K (pc + 1) L S' (jup H a (jA k (aI n (upd f i.toNatClampNeg (g x)))))
  | _ => False
theorem nf_iast (g : Int32 → Int32) (k : Nat) : jNF (o_iast g k) := jNF.k fun C K Rt pc L S H h => by
  unfold o_iast at h ⊢
  split at h
  next =>
    obtain ⟨a, n, f, h1, h2, h3, h4⟩ := h
    exact ⟨_, _, _, _, h4, Nat.le_refl _, fun _ _ _ h9 => ⟨a, n, f, h1, h2, h3, h9⟩⟩
  next => exact h.elim
def o_last (k : Nat) : JIns := fun _ K _ pc L S H => match S with
  | .inr (.inr (.inl x)) :: .inl i :: .inr (.inl r) :: S' => ∃ (a n : Nat) (f : Nat → Int64), r = some a ∧ H.1 a = some (true, jA k (aL n f)) ∧ vp_in i n ∧ K (pc + 1) L S' (jup H a (jA k (aL n (vp_updL f i.toNatClampNeg x))))
  | _ => False
theorem nf_last (k : Nat) : jNF (o_last k) := jNF.k fun C K Rt pc L S H h => by
  unfold o_last at h ⊢
  split at h
  next =>
    obtain ⟨a, n, f, h1, h2, h3, h4⟩ := h
    exact ⟨_, _, _, _, h4, Nat.le_refl _, fun _ _ _ h9 => ⟨a, n, f, h1, h2, h3, h9⟩⟩
  next => exact h.elim
def o_rast (k : Nat) : JIns := fun _ K _ pc L S H => match S with
  | .inr (.inl x) :: .inl i :: .inr (.inl r) :: S' => ∃ (a n : Nat) (f : Nat → Option Nat), r = some a ∧ H.1 a = some (true, jA k (aR n f)) ∧ vp_in i n ∧ (∀ b, x = some b → jobn H b) ∧ K (pc + 1) L S' (jup H a (jA k (aR n (va_up f i.toNatClampNeg x))))
  | _ => False
theorem nf_rast (k : Nat) : jNF (o_rast k) := jNF.k fun C K Rt pc L S H h => by
  unfold o_rast at h ⊢
  split at h
  next =>
    obtain ⟨a, n, f, h1, h2, h3, h4⟩ := h
    exact ⟨_, _, _, _, h4.2, Nat.le_refl _, fun _ _ _ h9 => ⟨a, n, f, h1, h2, h3, h4.1, h9⟩⟩
  next => exact h.elim
def o_rastl (k : Nat) : JIns := fun _ K _ pc L S H => match S with
  | .inr (.inl x) :: .inl i :: .inr (.inl r) :: S' => ∃ (a n : Nat) (f : Nat → Option Nat), r = some a ∧ H.1 a = some (true, jA k (aR n f)) ∧ vp_in i n ∧ (∀ b, x = some b → ∃ fs, job H b 999 fs) ∧ K (pc + 1) L S' (jup H a (jA k (aR n (va_up f i.toNatClampNeg x))))
  | _ => False
theorem nf_rastl (k : Nat) : jNF (o_rastl k) := jNF.k fun C K Rt pc L S H h => by
  unfold o_rastl at h ⊢
  split at h
  next =>
    obtain ⟨a, n, f, h1, h2, h3, h4⟩ := h
    exact ⟨_, _, _, _, h4.2, Nat.le_refl _, fun _ _ _ h9 => ⟨a, n, f, h1, h2, h3, h4.1, h9⟩⟩
  next => exact h.elim
def o_alen (k : Nat) : JIns := fun _ K _ pc L S H => match S with
  | .inr (.inl r) :: S' => ∃ (a : Nat) (A : vp_A), r = some a ∧ jar H a k A ∧ K (pc + 1) L (jI (nI A.1) :: S') H
  | _ => False
theorem nf_alen (k : Nat) : jNF (o_alen k) := jNF.k fun C K Rt pc L S H h => by
  unfold o_alen at h ⊢
  split at h
  next =>
    obtain ⟨a, A, h1, h2, h4⟩ := h
    exact ⟨_, _, _, _, h4, Nat.le_refl _, fun _ _ _ h9 => ⟨a, A, h1, h2, h9⟩⟩
  next => exact h.elim
theorem jnew_room (H : JHp) (c : JCel) (n : Nat) : H.2.2 ≤ (jnew H c n).2.2 := by show H.2.2 ≤ H.2.2 + 1 + n; omega
def o_newai (k : Nat) : JIns := fun _ K _ pc L S H => match S with
  | .inl x :: S' => ¬ x < 0 ∧ x.toNatClampNeg ≤ 65536 ∧ K (pc + 2) L (jR (some H.2.1) :: S') (jnew H (jA k (aI x.toNatClampNeg (fun _ => 0))) x.toNatClampNeg)
  | _ => False
theorem nf_newai (k : Nat) : jNF (o_newai k) := jNF.k fun C K Rt pc L S H h => by
  unfold o_newai at h ⊢
  split at h
  next => exact ⟨_, _, _, _, h.2.2, jnew_room _ _ _, fun _ _ _ h9 => ⟨h.1, h.2.1, h9⟩⟩
  next => exact h.elim
def o_newal (k : Nat) : JIns := fun _ K _ pc L S H => match S with
  | .inl x :: S' => ¬ x < 0 ∧ x.toNatClampNeg ≤ 65536 ∧ K (pc + 2) L (jR (some H.2.1) :: S') (jnew H (jA k (aL x.toNatClampNeg (fun _ => 0))) x.toNatClampNeg)
  | _ => False
theorem nf_newal (k : Nat) : jNF (o_newal k) := jNF.k fun C K Rt pc L S H h => by
  unfold o_newal at h ⊢
  split at h
  next => exact ⟨_, _, _, _, h.2.2, jnew_room _ _ _, fun _ _ _ h9 => ⟨h.1, h.2.1, h9⟩⟩
  next => exact h.elim
def o_newar (k : Nat) : JIns := fun _ K _ pc L S H => match S with
  | .inl x :: S' => ¬ x < 0 ∧ x.toNatClampNeg ≤ 65536 ∧ K (pc + 3) L (jR (some H.2.1) :: S') (jnew H (jA k (aR x.toNatClampNeg (fun _ => none))) x.toNatClampNeg)
  | _ => False
theorem nf_newar (k : Nat) : jNF (o_newar k) := jNF.k fun C K Rt pc L S H h => by
  unfold o_newar at h ⊢
  split at h
  next => exact ⟨_, _, _, _, h.2.2, jnew_room _ _ _, fun _ _ _ h9 => ⟨h.1, h.2.1, h9⟩⟩
  next => exact h.elim
def o_new (c : Nat) (fs : List JVal) (n : Nat) : JIns := fun _ K _ pc L S H => K (pc + 3) L (jR (some H.2.1) :: S) (jnew H (jO c fs) n)
theorem nf_new (c : Nat) (fs : List JVal) (n : Nat) : jNF (o_new c fs n) := jNF.k fun C K Rt pc L S H h => ⟨_, _, _, _, h, jnew_room _ _ _, fun _ _ _ h => h⟩
/-- a cast of null or of an object of the class c -/
def o_cast (c : Nat) : JIns := fun _ K _ pc L S H => match S with
  | .inr (.inl r) :: S' => (∀ a, r = some a → ∃ fs, job H a c fs) ∧ K (pc + 3) L (jR r :: S') H
  | _ => False
theorem nf_cast (c : Nat) : jNF (o_cast c) := jNF.k fun C K Rt pc L S H h => by
  unfold o_cast at h ⊢
  split at h
  next => exact ⟨_, _, _, _, h.2, Nat.le_refl _, fun _ _ _ h9 => ⟨h.1, h9⟩⟩
  next => exact h.elim
/-- a cast of an array of kind k -/
def o_casta (k : Nat) : JIns := fun _ K _ pc L S H => match S with
  | .inr (.inl r) :: S' => (∀ a, r = some a → ∃ A, H.1 a = some (true, jA k A)) ∧ K (pc + 3) L (jR r :: S') H
  | _ => False
theorem nf_casta (c : Nat) : jNF (o_casta c) := jNF.k fun C K Rt pc L S H h => by
  unfold o_casta at h ⊢
  split at h
  next => exact ⟨_, _, _, _, h.2, Nat.le_refl _, fun _ _ _ h9 => ⟨h.1, h9⟩⟩
  next => exact h.elim
/-- Object.<init> -/
def o_objinit : JIns := fun _ K _ pc L S H => match S with
  | .inr (.inl r) :: S' => bif Nat.ble (jWs S') 8 then ∃ a : Nat, r = some a ∧ K (pc + 3) L S' H else False
  | _ => False
theorem nf_objinit : jNF o_objinit := jNF.k fun C K Rt pc L S H h => by
  unfold o_objinit at h ⊢
  split at h
  next r S' =>
    cases eb : Nat.ble (jWs S') 8 with
    | false => rw [eb] at h; exact h.elim
    | true =>
      rw [eb] at h
      obtain ⟨a, h1, h2⟩ := h; exact ⟨_, _, _, _, h2, Nat.le_refl _, fun _ _ _ h9 => by simp only [eb, cond_true]; exact ⟨a, h1, h9⟩⟩
  next => exact h.elim
/-- a captured int -/
def o_lambda (c : Nat) : JIns := fun _ K _ pc L S H => match S with
  | .inl x :: S' => bif Nat.ble (jWs S') 8 then K (pc + 5) L (jR (some H.2.1) :: S') (jnew H (jO c [jI x]) 1) else False
  | _ => False
theorem nf_lambda (c : Nat) : jNF (o_lambda c) := jNF.k fun C K Rt pc L S H h => by
  unfold o_lambda at h ⊢
  split at h
  next x S' =>
    cases eb : Nat.ble (jWs S') 8 with
    | false => rw [eb] at h; exact h.elim
    | true =>
      rw [eb] at h
      exact ⟨_, _, _, _, h, jnew_room _ _ _, fun _ _ _ h9 => by simp only [eb, cond_true]; exact h9⟩
  next => exact h.elim
/-- getClass() of an array of kind k whose class object is at g -/
def o_getC (k g : Nat) : JIns := fun _ K _ pc L S H => match S with
  | .inr (.inl r) :: S' => bif Nat.ble (jWs S') 8 then ∃ (a : Nat) (A : vp_A), r = some a ∧ H.1 a = some (true, jA k A) ∧ K (pc + 3) L (jR (some g) :: S') H else False
  | _ => False
theorem nf_getC (k g : Nat) : jNF (o_getC k g) := jNF.k fun C K Rt pc L S H h => by
  unfold o_getC at h ⊢
  split at h
  next r S' =>
    cases eb : Nat.ble (jWs S') 8 with
    | false => rw [eb] at h; exact h.elim
    | true =>
      rw [eb] at h
      obtain ⟨a, A, h1, h2, h3⟩ := h; exact ⟨_, _, _, _, h3, Nat.le_refl _, fun _ _ _ h9 => by simp only [eb, cond_true]; exact ⟨a, A, h1, h2, h9⟩⟩
  next => exact h.elim
def o_copyi (k : Nat) : JIns := fun _ K _ pc L S H => match S with
  | .inl z :: .inl j :: .inr (.inl r2) :: .inl i :: .inr (.inl r1) :: S' => bif Nat.ble (jWs S') 8 then ∃ (a b n1 n2 : Nat) (f g : Nat → Int32) (sp dp n : Nat), r1 = some a ∧ r2 = some b ∧ jar H a k (aI n1 f) ∧ H.1 b = some (true, jA k (aI n2 g)) ∧ i = nI sp ∧ j = nI dp ∧ z = nI n ∧ sp + n ≤ n1 ∧ dp + n ≤ n2 ∧ n1 < 2 ^ 31 ∧ n2 < 2 ^ 31 ∧ (∀ q, q < n → jbyte (f (sp + q))) ∧ K (pc + 3) L S' (jup H b (jA k (aI n2 (va_cpy f g sp dp n)))) else False
  | _ => False
theorem nf_copyi (k : Nat) : jNF (o_copyi k) := jNF.k fun C K Rt pc L S H h => by
  unfold o_copyi at h ⊢
  split at h
  next z j r2 i r1 S' =>
    cases eb : Nat.ble (jWs S') 8 with
    | false => rw [eb] at h; exact h.elim
    | true =>
      rw [eb] at h
      obtain ⟨a, b, n1, n2, f, g, sp, dp, n, h1, h2, h3, h4, h5, h6, h7, h8, h9, h10, h11, h12, h13⟩ := h
      refine ⟨_, _, _, _, h13, Nat.le_refl _, fun _ _ _ q => ?_⟩
      simp only [eb, cond_true]
      exact ⟨a, b, n1, n2, f, g, sp, dp, n, h1, h2, h3, h4, h5, h6, h7, h8, h9, h10, h11, h12, q⟩
  next => exact h.elim
def o_copyl (k : Nat) : JIns := fun _ K _ pc L S H => match S with
  | .inl z :: .inl j :: .inr (.inl r2) :: .inl i :: .inr (.inl r1) :: S' => bif Nat.ble (jWs S') 8 then ∃ (a b n1 n2 : Nat) (f g : Nat → Int64) (sp dp n : Nat), r1 = some a ∧ r2 = some b ∧ jar H a k (aL n1 f) ∧ H.1 b = some (true, jA k (aL n2 g)) ∧ i = nI sp ∧ j = nI dp ∧ z = nI n ∧ sp + n ≤ n1 ∧ dp + n ≤ n2 ∧ n1 < 2 ^ 31 ∧ n2 < 2 ^ 31 ∧ True ∧ K (pc + 3) L S' (jup H b (jA k (aL n2 (va_cpy f g sp dp n)))) else False
  | _ => False
theorem nf_copyl (k : Nat) : jNF (o_copyl k) := jNF.k fun C K Rt pc L S H h => by
  unfold o_copyl at h ⊢
  split at h
  next z j r2 i r1 S' =>
    cases eb : Nat.ble (jWs S') 8 with
    | false => rw [eb] at h; exact h.elim
    | true =>
      rw [eb] at h
      obtain ⟨a, b, n1, n2, f, g, sp, dp, n, h1, h2, h3, h4, h5, h6, h7, h8, h9, h10, h11, h12, h13⟩ := h
      refine ⟨_, _, _, _, h13, Nat.le_refl _, fun _ _ _ q => ?_⟩
      simp only [eb, cond_true]
      exact ⟨a, b, n1, n2, f, g, sp, dp, n, h1, h2, h3, h4, h5, h6, h7, h8, h9, h10, h11, h12, q⟩
  next => exact h.elim
def o_copyr (k : Nat) : JIns := fun _ K _ pc L S H => match S with
  | .inl z :: .inl j :: .inr (.inl r2) :: .inl i :: .inr (.inl r1) :: S' => bif Nat.ble (jWs S') 8 then ∃ (a b n1 n2 : Nat) (f g : Nat → Option Nat) (sp dp n : Nat), r1 = some a ∧ r2 = some b ∧ jar H a k (aR n1 f) ∧ H.1 b = some (true, jA k (aR n2 g)) ∧ i = nI sp ∧ j = nI dp ∧ z = nI n ∧ sp + n ≤ n1 ∧ dp + n ≤ n2 ∧ n1 < 2 ^ 31 ∧ n2 < 2 ^ 31 ∧ (∀ q, q < n → ∀ y, f (sp + q) = some y → jobn H y) ∧ K (pc + 3) L S' (jup H b (jA k (aR n2 (va_cpy f g sp dp n)))) else False
  | _ => False
theorem nf_copyr (k : Nat) : jNF (o_copyr k) := jNF.k fun C K Rt pc L S H h => by
  unfold o_copyr at h ⊢
  split at h
  next z j r2 i r1 S' =>
    cases eb : Nat.ble (jWs S') 8 with
    | false => rw [eb] at h; exact h.elim
    | true =>
      rw [eb] at h
      obtain ⟨a, b, n1, n2, f, g, sp, dp, n, h1, h2, h3, h4, h5, h6, h7, h8, h9, h10, h11, h12, h13⟩ := h
      refine ⟨_, _, _, _, h13, Nat.le_refl _, fun _ _ _ q => ?_⟩
      simp only [eb, cond_true]
      exact ⟨a, b, n1, n2, f, g, sp, dp, n, h1, h2, h3, h4, h5, h6, h7, h8, h9, h10, h11, h12, q⟩
  next => exact h.elim
/-! calls -/
def jsp : Nat → List JVal → List JVal → Option (List JVal × List JVal)
  | 0, acc, S => some (acc, S)
  | _ + 1, _, [] => none
  | n + 1, acc, v :: S => jsp n (v :: acc) S
abbrev JRc : Type := List JVal → JHp → Prop → Prop
abbrev JRk : Type := (Option JVal → Prop) → Prop
/-- the receiver: none; not null; an object of class c -/
def rcS : JRc := fun _ _ P => P
def rcI : JRc := fun as _ P => match as with
  | .inr (.inl r) :: _ => ∃ a : Nat, r = some a ∧ P
  | _ => False
def rcV (c : Nat) : JRc := fun as H P => match as with
  | .inr (.inl r) :: _ => ∃ (a : Nat) (fs : List JVal), r = some a ∧ job H a c fs ∧ P
  | _ => False
def jRcL (rc : JRc) : Prop := ∀ as H P, rc as H P → P ∧ ∀ P' : Prop, P' → rc as H P'
theorem rcS_l : jRcL rcS := fun _ _ _ h => ⟨h, fun _ h => h⟩
theorem rcI_l : jRcL rcI := fun as H P h => by
  unfold rcI at h ⊢
  split at h
  next => obtain ⟨a, h1, h2⟩ := h; exact ⟨h2, fun _ h9 => ⟨a, h1, h9⟩⟩
  next => exact h.elim
theorem rcV_l (c : Nat) : jRcL (rcV c) := fun as H P h => by
  unfold rcV at h ⊢
  split at h
  next => obtain ⟨a, fs, h1, h2, h3⟩ := h; exact ⟨h3, fun _ h9 => ⟨a, fs, h1, h2, h9⟩⟩
  next => exact h.elim
def rkV : JRk := fun F => F none
def rkI : JRk := fun F => ∃ x : Int32, F (some (jI x))
def rkR : JRk := fun F => ∃ x : Option Nat, F (some (jR x))
def rkL : JRk := fun F => ∃ x : Int64, F (some (jL x))
def rkF : JRk := fun F => ∃ x : UInt32, F (some (jF x))
def rkD : JRk := fun F => ∃ x : UInt64, F (some (jD x))
def jRkL (rk : JRk) : Prop := ∀ F, rk F → ∃ v, F v ∧ ∀ F' : Option JVal → Prop, F' v → rk F'
theorem rkV_l : jRkL rkV := fun _ h => ⟨_, h, fun _ h => h⟩
theorem rkI_l : jRkL rkI := fun _ ⟨x, h⟩ => ⟨_, h, fun _ h => ⟨x, h⟩⟩
theorem rkR_l : jRkL rkR := fun _ ⟨x, h⟩ => ⟨_, h, fun _ h => ⟨x, h⟩⟩
theorem rkL_l : jRkL rkL := fun _ ⟨x, h⟩ => ⟨_, h, fun _ h => ⟨x, h⟩⟩
theorem rkF_l : jRkL rkF := fun _ ⟨x, h⟩ => ⟨_, h, fun _ h => ⟨x, h⟩⟩
theorem rkD_l : jRkL rkD := fun _ ⟨x, h⟩ => ⟨_, h, fun _ h => ⟨x, h⟩⟩
def jpush : Option JVal → JSt → JSt
  | none, S => S
  | some v, S => v :: S
/-- a call that returns -/
def o_call (m n : Nat) (rc : JRc) (rk : JRk) (len : Nat) : JIns := fun C K _ pc L S H => match jsp n [] S with
  | some (as, S') => bif Nat.ble (jWs S') 8 then rc as H (rk (fun v => ∃ H1 : JHp, C m as H (.inl v) H1 ∧ K (pc + len) L (jpush v S') H1)) else False
  | none => False
theorem nf_call (m n : Nat) {rc : JRc} {rk : JRk} (len : Nat) (hc : jRcL rc) (hk : jRkL rk) : jNF (o_call m n rc rk len) := fun C K Rt pc L S H h => by
  unfold o_call at h ⊢
  split at h
  next as S' e =>
    cases eb : Nat.ble (jWs S') 8 with
    | false => rw [eb] at h; exact h.elim
    | true =>
      rw [eb] at h
      obtain ⟨h1, h2⟩ := hc _ _ _ h
      obtain ⟨v, ⟨H1, g1, g2⟩, h3⟩ := hk _ h1
      refine ⟨[(m, as, H, .inl v, H1)], .inl (pc + len, L, jpush v S', H1), ?_, g2, fun hq => hq _ List.mem_cons_self, fun C' K' Rt' hq hk9 => ?_⟩
      · intro q hq
        cases List.mem_singleton.mp hq
        exact g1
      · exact h2 _ (h3 _ ⟨H1, hq _ List.mem_cons_self, hk9⟩)
  next => exact h.elim
/-- where what was thrown goes: to a handler, or to the caller -/
def xH (c hpc : Nat) : JK → JRt → JLoc → Nat → JHp → Prop := fun K _ L q H1 => ∃ fs : List JVal, H1.1 q = some (true, jO c fs) ∧ K hpc L [jR (some q)] H1
def xO (c : Nat) : JK → JRt → JLoc → Nat → JHp → Prop := fun _ Rt _ q H1 => ∃ fs : List JVal, H1.1 q = some (true, jO c fs) ∧ Rt (.inr q) H1
/-- a call that returns or throws -/
def o_callX (m n : Nat) (rc : JRc) (rk : JRk) (len : Nat) (X : JK → JRt → JLoc → Nat → JHp → Prop) : JIns := fun C K Rt pc L S H => match jsp n [] S with
  | some (as, S') => bif Nat.ble (jWs S') 8 then rc as H (∃ (o : JOut) (H1 : JHp), C m as H o H1 ∧ (rk (fun v => o = .inl v ∧ K (pc + len) L (jpush v S') H1) ∨ ∃ q : Nat, o = .inr q ∧ X K Rt L q H1)) else False
  | none => False
theorem nf_callXH (m n : Nat) {rc : JRc} {rk : JRk} (len c hpc : Nat) (hc : jRcL rc) (hk : jRkL rk) : jNF (o_callX m n rc rk len (xH c hpc)) := fun C K Rt pc L S H h => by
  unfold o_callX at h ⊢
  split at h
  next as S' e =>
    cases eb : Nat.ble (jWs S') 8 with
    | false => rw [eb] at h; exact h.elim
    | true =>
      rw [eb] at h
      obtain ⟨⟨o, H1, g1, g2⟩, h2⟩ := hc _ _ _ h
      rcases g2 with g2 | ⟨q, e1, fs, e2, e3⟩
      · obtain ⟨v, ⟨e1, e2⟩, h3⟩ := hk _ g2
        refine ⟨[(m, as, H, o, H1)], .inl (pc + len, L, jpush v S', H1), ?_, e2, fun hq => hq _ List.mem_cons_self, fun C' K' Rt' hq hk9 => ?_⟩
        · intro q hq
          cases List.mem_singleton.mp hq
          exact g1
        · exact h2 _ ⟨o, H1, hq _ List.mem_cons_self, Or.inl (h3 _ ⟨e1, hk9⟩)⟩
      · refine ⟨[(m, as, H, o, H1)], .inl (hpc, L, [jR (some q)], H1), ?_, e3, fun hq => hq _ List.mem_cons_self, fun C' K' Rt' hq hk9 => ?_⟩
        · intro q hq
          cases List.mem_singleton.mp hq
          exact g1
        · exact h2 _ ⟨o, H1, hq _ List.mem_cons_self, Or.inr ⟨q, e1, fs, e2, hk9⟩⟩
  next => exact h.elim
theorem nf_callXO (m n : Nat) {rc : JRc} {rk : JRk} (len c : Nat) (hc : jRcL rc) (hk : jRkL rk) : jNF (o_callX m n rc rk len (xO c)) := fun C K Rt pc L S H h => by
  unfold o_callX at h ⊢
  split at h
  next as S' e =>
    cases eb : Nat.ble (jWs S') 8 with
    | false => rw [eb] at h; exact h.elim
    | true =>
      rw [eb] at h
      obtain ⟨⟨o, H1, g1, g2⟩, h2⟩ := hc _ _ _ h
      rcases g2 with g2 | ⟨q, e1, fs, e2, e3⟩
      · obtain ⟨v, ⟨e1, e2⟩, h3⟩ := hk _ g2
        refine ⟨[(m, as, H, o, H1)], .inl (pc + len, L, jpush v S', H1), ?_, e2, fun hq => hq _ List.mem_cons_self, fun C' K' Rt' hq hk9 => ?_⟩
        · intro q hq
          cases List.mem_singleton.mp hq
          exact g1
        · exact h2 _ ⟨o, H1, hq _ List.mem_cons_self, Or.inl (h3 _ ⟨e1, hk9⟩)⟩
      · refine ⟨[(m, as, H, o, H1)], .inr (.inr q, H1), ?_, e3, fun hq => hq _ List.mem_cons_self, fun C' K' Rt' hq hk9 => ?_⟩
        · intro q hq
          cases List.mem_singleton.mp hq
          exact g1
        · exact h2 _ ⟨o, H1, hq _ List.mem_cons_self, Or.inr ⟨q, e1, fs, e2, hk9⟩⟩
  next => exact h.elim
/-- a throw that leaves the method -/
def o_athrow (c : Nat) : JIns := fun _ _ Rt _ _ S H => match S with
  | .inr (.inl r) :: _ => ∃ (q : Nat) (fs : List JVal), r = some q ∧ H.1 q = some (true, jO c fs) ∧ Rt (.inr q) H
  | _ => False
theorem nf_athrow (c : Nat) : jNF (o_athrow c) := jNF.r fun C K Rt pc L S H h => by
  unfold o_athrow at h ⊢
  split at h
  next => obtain ⟨q, fs, h1, h2, h3⟩ := h; exact ⟨_, h3, fun _ _ _ h9 => ⟨q, fs, h1, h2, h9⟩⟩
  next => exact h.elim

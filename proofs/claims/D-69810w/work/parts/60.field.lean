/-! registers of a ring: the component's field -/
set_option maxRecDepth 100000
def Reg (h : AH) (F p N : Nat) (ad : Nat → Nat × Nat) (f : Nat → Nat) : Prop := RingAt h F p ∧ ∀ j, j < N → BigAt h (ad j).1 (ad j).2 ∧ bv h (ad j).2 = f j ∧ f j < p
def AdOk (F N : Nat) (ad : Nat → Nat × Nat) : Prop := (∀ i j, i < N → j < N → (ad i).2 = (ad j).2 → i = j) ∧ ∀ j, j < N → ¬ (F + 2 ≤ (ad j).2 ∧ (ad j).2 ≤ F + 16)
def RP (F N : Nat) (ad : Nat → Nat × Nat) (x : Nat) : Prop := scr F x ∨ ∃ j, j < N ∧ x = (ad j).2
theorem AH.r_si (h : AH) (g : Nat → List Int32) : (h.si g).r = h.r := rfl
theorem AH.kd_si (h : AH) (g : Nat → List Int32) : (h.si g).kd = h.kd := rfl
section Reg
variable {G : Gx} {d : Nat} {h : AH} {F p N : Nat} {ad : Nat → Nat × Nat} {f : Nat → Nat}
theorem Reg.put {P : Nat → Prop} {h' : AH} {t v : Nat} (A : AdOk F N ad) (S : Reg h F p N ad f) (ht : t < N) (M : Mod P h h') (hP : ∀ x, P x → scr F x ∨ x = (ad t).2) (e : h'.ai (ad t).2 = lb v) (hv : v < p) : Mod (RP F N ad) h h' ∧ Reg h' F p N ad (up1 f t v) := by
  have hp : p < 4294967296 ^ 8 := by rw [← S.1.2.1]; exact bv_lt _ _
  have h2 : ¬ P (F + 2) := fun q => (hP _ q).elim (fun q => absurd q (by unfold scr; omega)) (fun q => A.2 t ht (by rw [← q]; omega))
  have h4 : ¬ P (F + 4) := fun q => (hP _ q).elim (fun q => absurd q (by unfold scr; omega)) (fun q => A.2 t ht (by rw [← q]; omega))
  refine ⟨M.mono (fun x hx => (hP x hx).elim Or.inl (fun q => Or.inr ⟨t, ht, q⟩)), S.1.mod M h2 h4, fun j hj => ?_⟩
  obtain ⟨b1, b2, b3⟩ := S.2 j hj
  refine ⟨b1.mod M, ?_⟩
  by_cases q : j = t
  · subst q
    rw [show up1 f j v j = v from if_pos rfl]
    exact ⟨bv_lb e (Nat.lt_trans hv hp), hv⟩
  · rw [show up1 f t v j = f j from if_neg q]
    refine ⟨?_, b3⟩
    rw [M.bv (fun c => (hP _ c).elim (fun c => A.2 j hj (by unfold scr at c; omega)) (fun c => q (A.1 j t hj ht c))), b2]
theorem Reg.mul (hd : 2 ≤ d) (A : AdOk F N ad) (S : Reg h F p N ad f) (t a b v : Nat) (hv : v = f a * f b % p) (ht : t < N) (ha : a < N) (hb : b < N) :
    Cw G mX4_multiply d 0 [vR F, vR (ad t).1, vR (ad a).1, vR (ad b).1] h (kV (fun h' => Mod (RP F N ad) h h' ∧ Reg h' F p N ad (up1 f t v)) nE) := by
  subst hv
  obtain ⟨t1, t2, t3⟩ := S.2 t ht
  obtain ⟨a1, a2, a3⟩ := S.2 a ha
  obtain ⟨b1, b2, b3⟩ := S.2 b hb
  have x1 := A.2 t ht
  have x2 := A.2 a ha
  have x3 := A.2 b hb
  have hpos := S.1.2.2.2
  refine (Ring_multiply_spec hd S.1 t1 a1 b1 (by omega) (by omega) (by omega)).nV (fun h' q => ?_)
  obtain ⟨M, e⟩ := q
  rw [a2, b2] at e
  exact S.put A ht M (fun x hx => by unfold scr; omega) e (Nat.mod_lt _ hpos)
theorem Reg.add (hd : 2 ≤ d) (A : AdOk F N ad) (S : Reg h F p N ad f) (t a b v : Nat) (hv : v = (f a + f b) % p) (ht : t < N) (ha : a < N) (hb : b < N) :
    Cw G mX4_add d 0 [vR F, vR (ad t).1, vR (ad a).1, vR (ad b).1] h (kV (fun h' => Mod (RP F N ad) h h' ∧ Reg h' F p N ad (up1 f t v)) nE) := by
  subst hv
  obtain ⟨t1, t2, t3⟩ := S.2 t ht
  obtain ⟨a1, a2, a3⟩ := S.2 a ha
  obtain ⟨b1, b2, b3⟩ := S.2 b hb
  have x1 := A.2 t ht
  have hpos := S.1.2.2.2
  refine (Ring_add_spec hd S.1 t1 a1 b1 (by omega) (by rw [a2]; exact a3) (by rw [b2]; exact b3)).nV (fun h' q => ?_)
  subst q
  rw [a2, b2]
  exact S.put A ht (Mod.wi (P := fun x => x = (ad t).2) (by rw [lb_len, t1.2.2.2]) rfl) (fun x hx => Or.inr hx) (AH.ai_wiS _ _ _) (Nat.mod_lt _ hpos)
theorem Reg.sub (hd : 2 ≤ d) (A : AdOk F N ad) (S : Reg h F p N ad f) (t a b v : Nat) (hv : v = (f a + p - f b) % p) (ht : t < N) (ha : a < N) (hb : b < N) :
    Cw G mX4_subtract d 0 [vR F, vR (ad t).1, vR (ad a).1, vR (ad b).1] h (kV (fun h' => Mod (RP F N ad) h h' ∧ Reg h' F p N ad (up1 f t v)) nE) := by
  subst hv
  obtain ⟨t1, t2, t3⟩ := S.2 t ht
  obtain ⟨a1, a2, a3⟩ := S.2 a ha
  obtain ⟨b1, b2, b3⟩ := S.2 b hb
  have x1 := A.2 t ht
  have hpos := S.1.2.2.2
  refine (Ring_subtract_spec hd S.1 t1 a1 b1 (by omega) (by rw [a2]; exact a3) (by rw [b2]; exact b3)).nV (fun h' q => ?_)
  subst q
  rw [a2, b2]
  exact S.put A ht (Mod.wi (P := fun x => x = (ad t).2) (by rw [lb_len, t1.2.2.2]) rfl) (fun x hx => Or.inr hx) (AH.ai_wiS _ _ _) (Nat.mod_lt _ hpos)
theorem Reg.isZ (hd : 1 ≤ d) (S : Reg h F p N ad f) (a : Nat) (ha : a < N) : Cw G mX5_isZero d 0 [vR (ad a).1] h (kI (fun x h' => x = (if f a = 0 then 1 else 0) ∧ h' = h) nE) := by
  obtain ⟨a1, a2, a3⟩ := S.2 a ha
  have := Big_isZero_spec (G := G) hd a1
  rw [a2] at this
  exact this
theorem Reg.zero (hd : 1 ≤ d) (A : AdOk F N ad) (S : Reg h F p N ad f) (t : Nat) (ht : t < N) : Cw G mX5_zero d 0 [vR (ad t).1] h (kR (fun _ h' => Mod (RP F N ad) h h' ∧ Reg h' F p N ad (up1 f t 0)) nE) := by
  obtain ⟨t1, t2, t3⟩ := S.2 t ht
  refine (Big_zero_spec hd t1).nR (fun x h' q => ?_)
  obtain ⟨_, rfl⟩ := q
  exact S.put A ht (Mod.wi (P := fun x => x = (ad t).2) (by rw [lb_len, t1.2.2.2]) rfl) (fun x hx => Or.inr hx) (AH.ai_wiS _ _ _) S.1.2.2.2
theorem Reg.copy (hd : 1 ≤ d) (A : AdOk F N ad) (S : Reg h F p N ad f) (t a : Nat) (ht : t < N) (ha : a < N) : Cw G mX5_copy d 0 [vR (ad t).1, vR (ad a).1] h (kR (fun _ h' => Mod (RP F N ad) h h' ∧ Reg h' F p N ad (up1 f t (f a))) nE) := by
  obtain ⟨t1, t2, t3⟩ := S.2 t ht
  obtain ⟨a1, a2, a3⟩ := S.2 a ha
  refine (Big_copy_spec hd t1 a1).nR (fun x h' q => ?_)
  obtain ⟨_, rfl⟩ := q
  exact S.put A ht (Mod.wi (P := fun x => x = (ad t).2) (by rw [a1.2.2.2, t1.2.2.2]) rfl) (fun x hx => Or.inr hx) (by rw [AH.ai_wiS, ai_lb a1.2.2.2, a2]) a3
theorem Reg.small {v : Nat} (hd : 2 ≤ d) (A : AdOk F N ad) (S : Reg h F p N ad f) (t : Nat) (ht : t < N) (hv : v < 2 ^ 64) (hvp : v < p) : Cw G mX5_small d 0 [vR (ad t).1, vJ (lN v)] h (kR (fun _ h' => Mod (RP F N ad) h h' ∧ Reg h' F p N ad (up1 f t v)) nE) := by
  obtain ⟨t1, t2, t3⟩ := S.2 t ht
  refine (Big_small_spec hv hd t1).nR (fun x h' q => ?_)
  obtain ⟨_, rfl⟩ := q
  exact S.put A ht (Mod.wi (P := fun x => x = (ad t).2) (by rw [lb_len, t1.2.2.2]) rfl) (fun x hx => Or.inr hx) (AH.ai_wiS _ _ _) hvp
theorem Reg.inv (hd : 4 ≤ d) (A : AdOk F N ad) (S : Reg h F p N ad f) (hp : 2 < p) (t a v : Nat) (hv : v = f a ^ (p - 2) % p) (ht : t < N) (ha : a < N) : Cw G mX4_invert d 0 [vR F, vR (ad t).1, vR (ad a).1] h (kV (fun h' => Mod (RP F N ad) h h' ∧ Reg h' F p N ad (up1 f t v)) nE) := by
  subst hv
  obtain ⟨t1, t2, t3⟩ := S.2 t ht
  obtain ⟨a1, a2, a3⟩ := S.2 a ha
  have x1 := A.2 t ht
  have x2 := A.2 a ha
  refine (Ring_invert_spec hd S.1 hp t1 a1 (by omega) (by omega)).nV (fun h' q => ?_)
  obtain ⟨M, e⟩ := q
  rw [a2] at e
  exact S.put A ht M (fun x hx => hx) e (Nat.mod_lt _ S.1.2.2.2)
end Reg

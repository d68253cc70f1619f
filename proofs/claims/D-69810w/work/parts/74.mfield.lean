/-! registers of the reference's ring: they hold images -/
set_option maxRecDepth 100000
def MReg (h : AH) (F p I N : Nat) (ad : Nat → Nat) (f : Nat → Nat) : Prop := MRingAt h F p I ∧ ∀ j, j < N → RowAt h (ad j) ∧ bv h (ad j) = mM p (f j) ∧ f j < p
def MAdOk (F N : Nat) (ad : Nat → Nat) : Prop := (∀ i j, i < N → j < N → ad i = ad j → i = j) ∧ ∀ j, j < N → ¬ (F + 1 ≤ ad j ∧ ad j ≤ F + 7)
def MRP (F N : Nat) (ad : Nat → Nat) (x : Nat) : Prop := (F + 5 ≤ x ∧ x ≤ F + 7) ∨ ∃ j, j < N ∧ x = ad j
section MReg
variable {G : Gx} {d : Nat} {h : AH} {F p I N : Nat} {ad : Nat → Nat} {f : Nat → Nat}
theorem MReg.put {P : Nat → Prop} {h' : AH} {t v : Nat} (A : MAdOk F N ad) (S : MReg h F p I N ad f) (ht : t < N) (M : Mod P h h') (hP : ∀ x, P x → (F + 5 ≤ x ∧ x ≤ F + 7) ∨ x = ad t) (e : h'.ai (ad t) = lb (mM p v)) (hv : v < p) : Mod (MRP F N ad) h h' ∧ MReg h' F p I N ad (up1 f t v) := by
  have hp : p < 4294967296 ^ 8 := by rw [← S.1.1.2.1]; exact bv_lt _ _
  have hp0 : 0 < p := by have := S.1.1.2.2.2; omega
  have hk : ∀ i, 1 ≤ i → i ≤ 4 → ¬ P (F + i) := fun i h1 h2 q => (hP _ q).elim (fun q => by omega) (fun q => A.2 t ht (by rw [← q]; omega))
  refine ⟨M.mono (fun x hx => (hP x hx).elim Or.inl (fun q => Or.inr ⟨t, ht, q⟩)), S.1.mod M (hk 1 (by omega) (by omega)) (hk 2 (by omega) (by omega)) (hk 3 (by omega) (by omega)) (hk 4 (by omega) (by omega)), fun j hj => ?_⟩
  obtain ⟨b1, b2, b3⟩ := S.2 j hj
  refine ⟨b1.mod M, ?_⟩
  by_cases q : j = t
  · subst q
    rw [show up1 f j v j = v from if_pos rfl]
    exact ⟨bv_lb e (Nat.lt_trans (mM_lt hp0) hp), hv⟩
  · rw [show up1 f t v j = f j from if_neg q]
    refine ⟨?_, b3⟩
    rw [M.bv (fun c => (hP _ c).elim (fun c => A.2 j hj (by omega)) (fun c => q (A.1 j t hj ht c))), b2]
theorem MReg.mul (hd : 2 ≤ d) (A : MAdOk F N ad) (S : MReg h F p I N ad f) (a b t v : Nat) (hv : v = f a * f b % p) (ha : a < N) (hb : b < N) (ht : t < N) :
    Cw G mX27_multiply d 0 [vR F, vR (ad a), vR (ad b), vR (ad t)] h (kV (fun h' => Mod (MRP F N ad) h h' ∧ MReg h' F p I N ad (up1 f t v)) nE) := by
  subst hv
  obtain ⟨t1, t2, t3⟩ := S.2 t ht
  obtain ⟨a1, a2, a3⟩ := S.2 a ha
  obtain ⟨b1, b2, b3⟩ := S.2 b hb
  have x1 := A.2 t ht
  have x2 := A.2 a ha
  have x3 := A.2 b hb
  have hp0 : 0 < p := by have := S.1.1.2.2.2; omega
  refine (MRing_multiply_spec hd S.1.1 S.1.2.1 a1 b1 t1 (by omega) (by omega) (by omega) (by rw [b2]; exact mM_lt hp0)).nV (fun h' q => ?_)
  obtain ⟨M, e⟩ := q
  rw [a2, b2, mM_mul S.1.2.1] at e
  exact S.put A ht M (fun x hx => by omega) e (Nat.mod_lt _ hp0)
theorem MReg.add (hd : 2 ≤ d) (A : MAdOk F N ad) (S : MReg h F p I N ad f) (a b t v : Nat) (hv : v = (f a + f b) % p) (ha : a < N) (hb : b < N) (ht : t < N) :
    Cw G mX27_add d 0 [vR F, vR (ad a), vR (ad b), vR (ad t)] h (kV (fun h' => Mod (MRP F N ad) h h' ∧ MReg h' F p I N ad (up1 f t v)) nE) := by
  subst hv
  obtain ⟨t1, t2, t3⟩ := S.2 t ht
  obtain ⟨a1, a2, a3⟩ := S.2 a ha
  obtain ⟨b1, b2, b3⟩ := S.2 b hb
  have x1 := A.2 t ht
  have hp0 : 0 < p := by have := S.1.1.2.2.2; omega
  refine (MRing_add_spec hd S.1.1 a1 b1 t1 (by omega) (by rw [a2]; exact mM_lt hp0) (by rw [b2]; exact mM_lt hp0)).nV (fun h' q => ?_)
  subst q
  rw [a2, b2, mM_add]
  exact S.put A ht (Mod.wi (P := fun x => x = ad t) (by rw [lb_len, t1.2]) rfl) (fun x hx => Or.inr hx) (AH.ai_wiS _ _ _) (Nat.mod_lt _ hp0)
theorem MReg.sub (hd : 2 ≤ d) (A : MAdOk F N ad) (S : MReg h F p I N ad f) (a b t v : Nat) (hv : v = (f a + p - f b) % p) (ha : a < N) (hb : b < N) (ht : t < N) :
    Cw G mX27_subtract d 0 [vR F, vR (ad a), vR (ad b), vR (ad t)] h (kV (fun h' => Mod (MRP F N ad) h h' ∧ MReg h' F p I N ad (up1 f t v)) nE) := by
  subst hv
  obtain ⟨t1, t2, t3⟩ := S.2 t ht
  obtain ⟨a1, a2, a3⟩ := S.2 a ha
  obtain ⟨b1, b2, b3⟩ := S.2 b hb
  have x1 := A.2 t ht
  have hp0 : 0 < p := by have := S.1.1.2.2.2; omega
  refine (MRing_subtract_spec hd S.1.1 a1 b1 t1 (by omega) (by rw [a2]; exact mM_lt hp0) (by rw [b2]; exact mM_lt hp0)).nV (fun h' q => ?_)
  subst q
  rw [a2, b2, mM_sub (Nat.le_of_lt b3) hp0]
  exact S.put A ht (Mod.wi (P := fun x => x = ad t) (by rw [lb_len, t1.2]) rfl) (fun x hx => Or.inr hx) (AH.ai_wiS _ _ _) (Nat.mod_lt _ hp0)
theorem MReg.isZ (hd : 1 ≤ d) (S : MReg h F p I N ad f) (a : Nat) (ha : a < N) : Cw G mX27_isZero d 0 [vR (ad a)] h (kI (fun x h' => x = (if f a = 0 then 1 else 0) ∧ h' = h) nE) := by
  obtain ⟨a1, a2, a3⟩ := S.2 a ha
  refine (Row_isZero_spec hd a1).nI (fun x h' q => ⟨?_, q.2⟩)
  rw [q.1, a2]
  by_cases e : f a = 0
  · rw [if_pos e, if_pos ((mM_0 S.1.2.1 a3).mpr e)]
  · rw [if_neg e, if_neg (fun c => e ((mM_0 S.1.2.1 a3).mp c))]
theorem MReg.copy (hd : 1 ≤ d) (A : MAdOk F N ad) (S : MReg h F p I N ad f) (a t : Nat) (ha : a < N) (ht : t < N) : Cw G mX27_copy d 0 [vR (ad a), vR (ad t)] h (kV (fun h' => Mod (MRP F N ad) h h' ∧ MReg h' F p I N ad (up1 f t (f a))) nE) := by
  obtain ⟨t1, t2, t3⟩ := S.2 t ht
  obtain ⟨a1, a2, a3⟩ := S.2 a ha
  refine (Row_copy_spec hd a1 t1).nV (fun h' q => ?_)
  subst q
  exact S.put A ht (Mod.wi (P := fun x => x = ad t) (by rw [a1.2, t1.2]) rfl) (fun x hx => Or.inr hx) (by rw [AH.ai_wiS, ai_lb a1.2, a2]) a3
end MReg

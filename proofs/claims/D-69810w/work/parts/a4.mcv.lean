/-! the reference's curve: one state over all its rows -/
set_option maxRecDepth 100000
/-- the field's rows: seven, generator, key, sum, work, a .. f -/
def ofG (j : Nat) : Nat := match j with
  | 0 => 16
  | 1 => 18
  | 2 => 19
  | 3 => 20
  | 4 => 22
  | 5 => 23
  | 6 => 24
  | 7 => 26
  | 8 => 27
  | 9 => 28
  | 10 => 30
  | 11 => 31
  | 12 => 32
  | 13 => 33
  | 14 => 34
  | 15 => 35
  | 16 => 36
  | 17 => 37
  | _ => 38
def adG (M j : Nat) : Nat := M + ofG j
theorem ofG_in : ∀ j, j < 19 → 16 ≤ ofG j ∧ ofG j ≤ 38 := by decide
theorem ofG_inj : ∀ i, i < 19 → ∀ j, j < 19 → ofG i = ofG j → i = j := by decide
theorem adG_in (M : Nat) {j : Nat} (hj : j < 19) : M + 16 ≤ adG M j ∧ adG M j ≤ M + 38 := by
  have := ofG_in j hj
  unfold adG
  omega
theorem adG_inj (M : Nat) {i j : Nat} (hi : i < 19) (hj : j < 19) (e : adG M i = adG M j) : i = j := by
  unfold adG at e
  exact ofG_inj i hi j hj (by omega)
def MCs (h : AH) (M F O : Nat) : Prop := (h.kd M = 24 ∧ h.r 24015 M = F ∧ h.r 24016 M = O ∧ h.r 24017 M = M + 16 ∧ h.r 24018 M = M + 17 ∧ h.r 24019 M = M + 21 ∧ h.r 24020 M = M + 25 ∧ h.r 24021 M = M + 29) ∧
  (h.r 24022 M = M + 33 ∧ h.r 24023 M = M + 34 ∧ h.r 24024 M = M + 35 ∧ h.r 24025 M = M + 36 ∧ h.r 24026 M = M + 37 ∧ h.r 24027 M = M + 38) ∧
  (h.r 24028 M = M + 39 ∧ h.r 24029 M = M + 40 ∧ h.r 24030 M = M + 41 ∧ h.r 24031 M = M + 42 ∧ h.r 24032 M = M + 43 ∧ h.r 24033 M = M + 44 ∧ h.r 24034 M = M + 45 ∧ h.r 24035 M = M + 46) ∧
  (MPtS h (M + 17) ∧ MPtS h (M + 21) ∧ MPtS h (M + 25) ∧ MPtS h (M + 29))
/-- the curve of the reference, its field's rows holding f -/
def MCr (h : AH) (M F O p N I J : Nat) (f : Nat → Nat) : Prop := MCs h M F O ∧ MReg h F p I 19 (adG M) f ∧ MRingAt h O N J ∧ (∀ k, 39 ≤ k → k ≤ 45 → RowAt h (M + k)) ∧ (M + 46 < F ∧ F + 7 < O) ∧ h.kd (M + 46) = 101 ∧ (h.ai (M + 46)).length = 32
/-- the rows that it writes -/
def cuP (M F O x : Nat) : Prop := (F + 5 ≤ x ∧ x ≤ F + 7) ∨ (O + 5 ≤ x ∧ x ≤ O + 7) ∨ (M + 16 ≤ x ∧ x ≤ M + 45)
section MCr
variable {G : Gx} {d : Nat} {h h' : AH} {M F O p N I J : Nat} {f f' : Nat → Nat}
theorem MCs.mod {P : Nat → Prop} (H : MCs h M F O) (m : Mod P h h') : MCs h' M F O := by
  unfold MCs MPtS at H ⊢
  rw [m.kd, m.r]
  exact H
theorem MCr.ok (H : MCr h M F O p N I J f) : MAdOk F 19 (adG M) := by
  have hF := H.2.2.2.2.1
  exact ⟨fun i j hi hj e => adG_inj M hi hj e, fun j hj => by have := adG_in M hj; omega⟩
theorem MCr.p0 (H : MCr h M F O p N I J f) : 2 < p := H.2.1.1.1.2.2.2
/-- registers of the field were worked on -/
theorem MCr.reg (H : MCr h M F O p N I J f) (m : Mod (MRP F 19 (adG M)) h h') (S : MReg h' F p I 19 (adG M) f') : MCr h' M F O p N I J f' ∧ Mod (cuP M F O) h h' := by
  obtain ⟨a1, a2, a3, a4, ⟨a5, a6⟩, a7, a8⟩ := H
  have no : ∀ x, MRP F 19 (adG M) x → (F + 5 ≤ x ∧ x ≤ F + 7) ∨ (M + 16 ≤ x ∧ x ≤ M + 38) := fun x q => by
    rcases q with q | ⟨j, hj, q⟩
    · exact Or.inl q
    · have := adG_in M hj
      exact Or.inr (by omega)
  refine ⟨⟨a1.mod m, S, a3.mod m (fun q => by have := no _ q; omega) (fun q => by have := no _ q; omega) (fun q => by have := no _ q; omega) (fun q => by have := no _ q; omega), fun k h1 h2 => (a4 k h1 h2).mod m, ⟨a5, a6⟩, by rw [m.kd]; exact a7, by rw [m.len]; exact a8⟩, m.mono (fun x q => ?_)⟩
  rcases no x q with q | q
  · exact Or.inl q
  · exact Or.inr (Or.inr (by omega))
/-- other rows were worked on -/
theorem MCr.raw {P : Nat → Prop} (H : MCr h M F O p N I J f) (m : Mod P h h') (hP : ∀ x, P x → (F + 5 ≤ x ∧ x ≤ F + 7) ∨ (O + 5 ≤ x ∧ x ≤ O + 7) ∨ (M + 39 ≤ x ∧ x ≤ M + 45)) : MCr h' M F O p N I J f ∧ Mod (cuP M F O) h h' := by
  obtain ⟨a1, a2, a3, a4, ⟨a5, a6⟩, a7, a8⟩ := H
  have nF : ∀ k, 1 ≤ k → k ≤ 4 → ¬ P (F + k) := fun k h1 h2 q => by
    have := hP _ q
    omega
  have nO : ∀ k, 1 ≤ k → k ≤ 4 → ¬ P (O + k) := fun k h1 h2 q => by
    have := hP _ q
    omega
  refine ⟨⟨a1.mod m, ⟨a2.1.mod m (nF 1 (by omega) (by omega)) (nF 2 (by omega) (by omega)) (nF 3 (by omega) (by omega)) (nF 4 (by omega) (by omega)), fun j hj => ?_⟩, a3.mod m (nO 1 (by omega) (by omega)) (nO 2 (by omega) (by omega)) (nO 3 (by omega) (by omega)) (nO 4 (by omega) (by omega)), fun k h1 h2 => (a4 k h1 h2).mod m, ⟨a5, a6⟩, by rw [m.kd]; exact a7, by rw [m.len]; exact a8⟩, m.mono (fun x q => ?_)⟩
  · obtain ⟨b1, b2, b3⟩ := a2.2 j hj
    have := adG_in M hj
    exact ⟨b1.mod m, by rw [m.bv (fun q => by have := hP _ q; omega)]; exact b2, b3⟩
  · rcases hP x q with q | q | q
    · exact Or.inl q
    · exact Or.inr (Or.inl q)
    · exact Or.inr (Or.inr (by omega))
theorem MCr.mul (hd : 2 ≤ d) (H : MCr h M F O p N I J f) (a b t v : Nat) (hv : v = f a * f b % p) (ha : a < 19) (hb : b < 19) (ht : t < 19) : Cw G mX27_multiply d 0 [vR F, vR (adG M a), vR (adG M b), vR (adG M t)] h (kV (fun h' => MCr h' M F O p N I J (up1 f t v) ∧ Mod (cuP M F O) h h') nE) :=
  (MReg.mul hd H.ok H.2.1 a b t v hv ha hb ht).nV (fun h' Q => H.reg Q.1 Q.2)
theorem MCr.add (hd : 2 ≤ d) (H : MCr h M F O p N I J f) (a b t v : Nat) (hv : v = (f a + f b) % p) (ha : a < 19) (hb : b < 19) (ht : t < 19) : Cw G mX27_add d 0 [vR F, vR (adG M a), vR (adG M b), vR (adG M t)] h (kV (fun h' => MCr h' M F O p N I J (up1 f t v) ∧ Mod (cuP M F O) h h') nE) :=
  (MReg.add hd H.ok H.2.1 a b t v hv ha hb ht).nV (fun h' Q => H.reg Q.1 Q.2)
theorem MCr.sub (hd : 2 ≤ d) (H : MCr h M F O p N I J f) (a b t v : Nat) (hv : v = (f a + p - f b) % p) (ha : a < 19) (hb : b < 19) (ht : t < 19) : Cw G mX27_subtract d 0 [vR F, vR (adG M a), vR (adG M b), vR (adG M t)] h (kV (fun h' => MCr h' M F O p N I J (up1 f t v) ∧ Mod (cuP M F O) h h') nE) :=
  (MReg.sub hd H.ok H.2.1 a b t v hv ha hb ht).nV (fun h' Q => H.reg Q.1 Q.2)
theorem MCr.copy (hd : 1 ≤ d) (H : MCr h M F O p N I J f) (a t : Nat) (ha : a < 19) (ht : t < 19) : Cw G mX27_copy d 0 [vR (adG M a), vR (adG M t)] h (kV (fun h' => MCr h' M F O p N I J (up1 f t (f a)) ∧ Mod (cuP M F O) h h') nE) :=
  (MReg.copy hd H.ok H.2.1 a t ha ht).nV (fun h' Q => H.reg Q.1 Q.2)
theorem MCr.same (hd : 2 ≤ d) (H : MCr h M F O p N I J f) (a b : Nat) (ha : a < 19) (hb : b < 19) : Cw G mX27_same d 0 [vR (adG M a), vR (adG M b)] h (kI (fun x h' => x = (if f a = f b then 1 else 0) ∧ h' = h) nE) := by
  obtain ⟨a1, a2, a3⟩ := H.2.1.2 a ha
  obtain ⟨b1, b2, b3⟩ := H.2.1.2 b hb
  refine (Row_same_spec hd a1 b1).nI (fun x h' Q => ⟨?_, Q.2⟩)
  rw [Q.1, a2, b2]
  by_cases e : f a = f b
  · rw [if_pos e, if_pos (by rw [e])]
  · rw [if_neg e, if_neg (fun c => e ((mM_inj H.2.1.1.2.1 a3 b3).mp c))]
/-- a row of the field is told one -/
theorem MCr.one (hd : 1 ≤ d) (H : MCr h M F O p N I J f) (t : Nat) (ht : t < 19) : Cw G mX27_copy d 0 [vR (F + 2), vR (adG M t)] h (kV (fun h' => MCr h' M F O p N I J (up1 f t 1) ∧ Mod (cuP M F O) h h') nE) := by
  have hp := H.p0
  have R1 : RowAt h (F + 2) := H.2.1.1.1.1.2.2.2.2.2.2.2.2.2.1
  have v2 : bv h (F + 2) = mM p 1 := by
    rw [H.2.1.1.2.2.1]
    unfold mM
    rw [Nat.one_mul]
  have t1 := (H.2.1.2 t ht).1
  refine (Row_copy_spec hd R1 t1).nV (fun h' Q => ?_)
  have P := H.2.1.put (h' := h') (t := t) (v := 1) (P := fun x => x = adG M t) H.ok ht (by rw [Q]; exact Mod.wi (by rw [R1.2, t1.2]) rfl) (fun x q => Or.inr q) (by rw [Q, AH.ai_wiS, ai_lb R1.2, v2]) (by omega)
  exact H.reg P.1 P.2
/-- a number comes into the field -/
theorem MCr.enter {k t v : Nat} (hd : 3 ≤ d) (H : MCr h M F O p N I J f) (h1 : 39 ≤ k) (h2 : k ≤ 45) (ht : t < 19) (hv : bv h (M + k) = v) (lv : v < p) : Cw G mX27_enter d 0 [vR F, vR (M + k), vR (adG M t)] h (kV (fun h' => MCr h' M F O p N I J (up1 f t v) ∧ Mod (cuP M F O) h h') nE) := by
  have hF := H.2.2.2.2.1
  have := adG_in M ht
  have t1 := (H.2.1.2 t ht).1
  refine (MRing_enter_spec hd H.2.1.1 (H.2.2.2.1 k h1 h2) t1 (by omega) (by omega)).nV (fun h' Q => ?_)
  rw [hv] at Q
  have P := H.2.1.put (t := t) (v := v) H.ok ht Q.1 (fun x q => by omega) Q.2 lv
  exact H.reg P.1 P.2
/-- and out of it -/
theorem MCr.leave {k a : Nat} (hd : 3 ≤ d) (H : MCr h M F O p N I J f) (h1 : 39 ≤ k) (h2 : k ≤ 45) (ha : a < 19) : Cw G mX27_leave d 0 [vR F, vR (adG M a), vR (M + k)] h (kV (fun h' => MCr h' M F O p N I J f ∧ Mod (cuP M F O) h h' ∧ h'.ai (M + k) = lb (f a) ∧ ∀ x, (M + 39 ≤ x ∧ x ≤ M + 45) → x ≠ M + k → h'.ai x = h.ai x) nE) := by
  have hF := H.2.2.2.2.1
  have := adG_in M ha
  obtain ⟨a1, a2, a3⟩ := H.2.1.2 a ha
  refine (MRing_leave_spec hd H.2.1.1 a1 (H.2.2.2.1 k h1 h2) (by omega) (by omega) a2).nV (fun h' Q => ?_)
  rw [Nat.mod_eq_of_lt a3] at Q
  have R := H.raw Q.1 (fun x q => by omega)
  exact ⟨R.1, R.2, Q.2, fun x q hx => Q.1.ai (by omega)⟩
theorem MCr.pow {a t : Nat} {E sh : Nat} {more : Int32} {v : Nat} (hd : 3 ≤ d) (H : MCr h M F O p N I J f) (ha : a < 19) (ht : t < 19) (hE : E < 4294967296 ^ 8) (hE1 : E / 4294967296 = p / 4294967296) (hE2 : u32 ((h.ai (F + 1)).getD 0 0 + more) = E % 4294967296) (hsh : sh ≤ 2) (hv : v = f a ^ (E / 2 ^ sh) % p) : Cw G mX27_power d 0 [vR F, vR (adG M a), vI more, vI (nI sh), vR (adG M t)] h (kV (fun h' => MCr h' M F O p N I J (up1 f t v) ∧ Mod (cuP M F O) h h') nE) := by
  have hp := H.p0
  have hF := H.2.2.2.2.1
  have := adG_in M ht
  obtain ⟨a1, a2, a3⟩ := H.2.1.2 a ha
  have t1 := (H.2.1.2 t ht).1
  refine (MRing_power_spec (A := f a) hd H.2.1.1 hE hE1 hE2 hsh a1 a2 t1 (by omega)).nV (fun h' Q => ?_)
  rw [← hv] at Q
  have P := H.2.1.put (t := t) (v := v) H.ok ht Q.1 (fun x q => q) Q.2 (by rw [hv]; exact Nat.mod_lt _ (by omega))
  exact H.reg P.1 P.2
/-- bytes, the highest first, become a number -/
theorem MCr.fb {k ra off : Nat} (hd : 1 ≤ d) (H : MCr h M F O p N I J f) (h1 : 39 ≤ k) (h2 : k ≤ 45) (ka : h.kd ra = 101) (la : off + 32 ≤ (h.ai ra).length) (la2 : (h.ai ra).length < 2 ^ 31) : Cw G mX24_fromBytes d 0 [vR ra, vI (nI off), vI 1, vR (M + k)] h (kV (fun h' => MCr h' M F O p N I J f ∧ Mod (cuP M F O) h h' ∧ bv h' (M + k) = beV (h.ai ra) off 32 ∧ ∀ x, x ≠ M + k → h'.ai x = h.ai x) nE) := by
  have t1 := H.2.2.2.1 k h1 h2
  refine (MD_fromBytes_spec (hi := 1) hd ka la la2 t1).nV (fun h' Q => ?_)
  rw [fbF_be] at Q
  have m : Mod (fun x => x = M + k) h h' := by
    rw [Q]
    exact Mod.wi (by rw [lb_len, t1.2]) rfl
  have R := H.raw m (fun x q => by omega)
  refine ⟨R.1, R.2, ?_, fun x hx => m.ai hx⟩
  refine bv_lb (by rw [Q, AH.ai_wiS]) ?_
  have := beV_lt (h.ai ra) off 32
  rw [show (256 : Nat) ^ 32 = 4294967296 ^ 8 by decide] at this
  exact this
end MCr

/-! whether a signature is right, by the component -/
set_option maxRecDepth 100000
/-- a number of a signature; what does not fit is told as 0 -/
def sgV (S : List Int32) (at_ n : Nat) : Nat := if beV S at_ n < 4294967296 ^ 8 then beV S at_ n else 0
theorem sgV_lt (S : List Int32) (at_ n : Nat) : sgV S at_ n < 4294967296 ^ 8 := by
  unfold sgV
  split
  · assumption
  · exact Nat.pow_pos (by decide)
/-- the sum of two multiples that is compared -/
def vrS (p N : Nat) (Bp Kp_ : Pt) (r s e : Nat) : Pt := nrm (addF p (mulN p Bp (e % N * (s ^ (N - 2) % N) % N) 256) (mulN p Kp_ (r * (s ^ (N - 2) % N) % N) 256))
def vrF (p N : Nat) (Bp Kp_ : Pt) (r s e : Nat) : Prop := (r ≠ 0 ∧ s ≠ 0 ∧ r < N ∧ s < N) ∧ (vrS p N Bp Kp_ r s e).2.2 ≠ 0 ∧ (plF p (vrS p N Bp Kp_ r s e)).1 % N = r
def vfP (C x : Nat) : Prop := (C + 6 ≤ x ∧ x ≤ C + 17) ∨ (C + 23 ≤ x ∧ x ≤ C + 34) ∨ (C + 43 ≤ x ∧ x ≤ C + 53) ∨ x = C + 63 ∨ x = C + 65 ∨ x = C + 67 ∨ x = C + 70 ∨ x = C + 72 ∨ x = C + 74 ∨ x = C + 77 ∨ x = C + 79 ∨ x = C + 81 ∨ x = C + 83 ∨ x = C + 85 ∨ x = C + 87 ∨ x = C + 89 ∨ x = C + 91
theorem dc_vf {C x : Nat} (q : dcP C x) : vfP C x := by
  simp only [dcP] at q
  simp only [vfP]
  omega
theorem cv_vf {C q x : Nat} (hq : q = C + 68 ∨ q = C + 75) (z : cvP C q x) : vfP C x := by
  simp only [cvP] at z
  simp only [vfP]
  omega
theorem inv_vf {C tw x : Nat} (hw : vfP C tw) (q : scr (C + 18) x ∨ x = tw) : vfP C x := by
  rcases q with q | q
  · simp only [scr] at q
    simp only [vfP]
    omega
  · rw [q]; exact hw
theorem mul_vf {C tw x : Nat} (hw : vfP C tw) (q : x = C + 18 + 5 ∨ x = C + 18 + 6 ∨ x = C + 18 + 12 ∨ x = tw) : vfP C x := by
  rcases q with q | q | q | q
  · simp only [vfP]; omega
  · simp only [vfP]; omega
  · simp only [vfP]; omega
  · rw [q]; exact hw
theorem vf_o {C k : Nat} (h : k = 83 ∨ k = 85 ∨ k = 87 ∨ k = 89 ∨ k = 91 ∨ k = 70) : vfP C (C + k) := by
  simp only [vfP]
  omega
section Vf
variable {G : Gx} {d : Nat} {h h1 : AH} {C p N : Nat}
theorem RingAt.vp (hR : RingAt h (C + 1) p) (M : Mod (vfP C) h h1) : RingAt h1 (C + 1) p := hR.mod M (fun q => by simp only [vfP] at q; omega) (fun q => by simp only [vfP] at q; omega)
theorem RingAt.vn (hR : RingAt h (C + 18) p) (M : Mod (vfP C) h h1) : RingAt h1 (C + 18) p := hR.mod M (fun q => by simp only [vfP] at q; omega) (fun q => by simp only [vfP] at q; omega)
theorem vf_base (M : Mod (vfP C) h h1) : ptV h1 (C + 35) = ptV h (C + 35) := by
  unfold ptV
  rw [M.bv (x := C + 35 + 2) (fun q => by simp only [vfP] at q; omega), M.bv (x := C + 35 + 4) (fun q => by simp only [vfP] at q; omega), M.bv (x := C + 35 + 6) (fun q => by simp only [vfP] at q; omega)]
theorem PtLt.eqv {q : Nat} (H : PtLt h q p) (e : ptV h1 q = ptV h q) : PtLt h1 q p := by
  unfold ptV at e
  obtain ⟨a, b⟩ := Prod.mk.inj e
  obtain ⟨b, c⟩ := Prod.mk.inj b
  exact ⟨by rw [a]; exact H.1, by rw [b]; exact H.2.1, by rw [c]; exact H.2.2⟩
theorem vf_wi {w v : Nat} (M : Mod (vfP C) h h1) (l : (h1.ai w).length = 8) (hw : vfP C w) : Mod (vfP C) h (h1.wi w (lb v)) := M.trans (Mod.wi (by rw [lb_len, l]) hw)
/-- the rows of the scalars' part -/
def scP (C x : Nat) : Prop := scr (C + 18) x ∨ x = C + 87 ∨ x = C + 89 ∨ x = C + 91
theorem scN {x : Nat} (h1 : C + 35 ≤ x) (h2 : x ≤ C + 85) : ¬ scP C x := fun q => by
  simp only [scP, scr] at q
  omega
theorem sc_vf {x : Nat} (q : scP C x) : vfP C x := by
  simp only [scP, scr] at q
  simp only [vfP]
  omega
theorem sc_wi {w v : Nat} (M : Mod (scP C) h h1) (l : (h1.ai w).length = 8) (hw : scP C w) : Mod (scP C) h (h1.wi w (lb v)) := M.trans (Mod.wi (by rw [lb_len, l]) hw)
theorem sc_mul {tw x : Nat} (hw : scP C tw) (q : x = C + 18 + 5 ∨ x = C + 18 + 6 ∨ x = C + 18 + 12 ∨ x = tw) : scP C x := by
  rcases q with q | q | q | q
  · exact Or.inl (by unfold scr; omega)
  · exact Or.inl (by unfold scr; omega)
  · exact Or.inl (by unfold scr; omega)
  · rw [q]; exact hw
theorem RingAt.sn (hR : RingAt h (C + 18) p) (M : Mod (scP C) h h1) : RingAt h1 (C + 18) p := hR.mod M (fun q => by simp only [scP, scr] at q; omega) (fun q => by simp only [scP, scr] at q; omega)
theorem RingAt.sp (hR : RingAt h (C + 1) p) (M : Mod (scP C) h h1) : RingAt h1 (C + 1) p := hR.mod M (fun q => by simp only [scP, scr] at q; omega) (fun q => by simp only [scP, scr] at q; omega)
theorem sc_pt {q : Nat} (M : Mod (scP C) h h1) (a : C + 35 ≤ q) (b : q + 6 ≤ C + 85) : ptV h1 q = ptV h q := by
  unfold ptV
  rw [M.bv (scN (x := q + 2) (by omega) (by omega)), M.bv (scN (x := q + 4) (by omega) (by omega)), M.bv (scN (x := q + 6) (by omega) (by omega))]
theorem sc_lt (hc : cvLt h C p) (M : Mod (scP C) h h1) : cvLt h1 C p := by
  unfold cvLt
  rw [M.bv (scN (x := C + 43) (by omega) (by omega)), M.bv (scN (x := C + 45) (by omega) (by omega)), M.bv (scN (x := C + 47) (by omega) (by omega)), M.bv (scN (x := C + 49) (by omega) (by omega)), M.bv (scN (x := C + 51) (by omega) (by omega)), M.bv (scN (x := C + 53) (by omega) (by omega))]
  exact hc
theorem cvN {q x : Nat} (a : C + 18 ≤ x) (b : x < C + 43 ∨ C + 53 < x) (c : x ≠ q + 2 ∧ x ≠ q + 4 ∧ x ≠ q + 6) : ¬ cvP C q x := fun z => by
  simp only [cvP] at z
  omega
theorem cv_pt {q o : Nat} (M : Mod (cvP C q) h h1) (a : C + 35 ≤ o) (b : o + 6 < C + 43 ∨ C + 53 < o) (c : q + 6 < o ∨ o + 6 < q) : ptV h1 o = ptV h o := by
  unfold ptV
  rw [M.bv (cvN (x := o + 2) (by omega) (by omega) (by omega)), M.bv (cvN (x := o + 4) (by omega) (by omega) (by omega)), M.bv (cvN (x := o + 6) (by omega) (by omega) (by omega))]
theorem RingAt.cn {q : Nat} (hR : RingAt h (C + 18) p) (M : Mod (cvP C q) h h1) (a : C + 53 < q) : RingAt h1 (C + 18) p := hR.mod M (cvN (by omega) (by omega) (by omega)) (cvN (by omega) (by omega) (by omega))
variable {hb : AH} {Bp Kq : Pt} {dg r s e : Nat} {DD : List Int32}
theorem vf_tail (hd : 7 ≤ d) (M0 : Mod (vfP C) hb h) (H : CvB h C) (hR : RingAt h (C + 1) p) (hN : RingAt h (C + 18) N) (hp : 2 < p) (hN2 : 2 < N) (hc : cvLt h C p) (lb_ : PtLt h (C + 35) p) (lk : PtLt h (C + 61) p) (ll : PtLt h (C + 68) p) (lr : PtLt h (C + 75) p) (eb : ptV h (C + 35) = Bp) (ek : ptV h (C + 61) = Kq)
    (er : bvE h (C + 83) r) (es : bvE h (C + 85) s) (hr : r ≠ 0 ∧ s ≠ 0 ∧ r < N ∧ s < N) (kd_ : h.kd dg = 101) (eD : h.ai dg = DD) (lD : DD.length = 32) (ee : e = beV DD 0 32) :
    ∀ r65 : Nat, r65 = (h.r 3015 C) → h.kd r65 = 5 ∧ Cw G mX5_read d 0 [vR r65, vR dg, vI 0, vI 32] h (kR (fun x66 h67 => Cw G mX4_reduce d 0 [vR (C + 18), vR r65] h67 (kV (fun h76 => ∀ r82 : Nat, r82 = (h76.r 3017 C) → Cw G mX4_invert d 0 [vR (C + 18), vR r82, vR (C + 84)] h76 (kV (fun h88 => ∀ r92 : Nat, r92 = (h88.r 3016 C) → Cw G mX4_multiply d 0 [vR (C + 18), vR r92, vR r65, vR r82] h88 (kV (fun h98 => Cw G mX4_multiply d 0 [vR (C + 18), vR r82, vR (C + 82), vR r82] h98 (kV (fun h112 => ∀ r115 : Nat, r115 = (h112.r 3011 C) → ∀ r119 : Nat, r119 = (h112.r 3002 C) → Cw G mX3_times d 0 [vR C, vR r115, vR r92, vR r119] h112 (kV (fun h121 => ∀ r123 : Nat, r123 = (h121.r 3012 C) → ∀ r126 : Nat, r126 = (h121.r 3010 C) → Cw G mX3_times d 0 [vR C, vR r123, vR r82, vR r126] h121 (kV (fun h128 => Cw G mX3_add d 0 [vR C, vR r115, vR r123] h128 (kV (fun h136 => h136.kd r115 = 6 ∧ Cw G mX6_none d 0 [vR r115] h136 (kI (fun x139 h140 => ((x139 = 0 → Cw G mX3_plain d 0 [vR C, vR r115] h140 (kV (fun h146 => ∀ r157 : Nat, r157 = (h146.r 6000 r115) → Cw G mX4_reduce d 0 [vR (C + 18), vR r157] h146 (kV (fun h159 => h159.kd r157 = 5 ∧ Cw G mX5_compare d 0 [vR r157, vR (C + 82)] h159 (kI (fun x178 h179 => ((¬ x178 = 0 → (kI (fun x h' => Mod (vfP C) hb h' ∧ cvLt h' C p ∧ PtLt h' (C + 68) p ∧ PtLt h' (C + 75) p ∧ ((x = 1 ∧ vrF p N Bp Kq r s e) ∨ (x = 0 ∧ ¬ vrF p N Bp Kq r s e))) nE) (.inl (some (vI 0))) h179) ∧ (x178 = 0 → (kI (fun x h' => Mod (vfP C) hb h' ∧ cvLt h' C p ∧ PtLt h' (C + 68) p ∧ PtLt h' (C + 75) p ∧ ((x = 1 ∧ vrF p N Bp Kq r s e) ∨ (x = 0 ∧ ¬ vrF p N Bp Kq r s e))) nE) (.inl (some (vI 1))) h179))) (fun x h => (kI (fun x h' => Mod (vfP C) hb h' ∧ cvLt h' C p ∧ PtLt h' (C + 68) p ∧ PtLt h' (C + 75) p ∧ ((x = 1 ∧ vrF p N Bp Kq r s e) ∨ (x = 0 ∧ ¬ vrF p N Bp Kq r s e))) nE) (.inr x) h))) (fun x h => (kI (fun x h' => Mod (vfP C) hb h' ∧ cvLt h' C p ∧ PtLt h' (C + 68) p ∧ PtLt h' (C + 75) p ∧ ((x = 1 ∧ vrF p N Bp Kq r s e) ∨ (x = 0 ∧ ¬ vrF p N Bp Kq r s e))) nE) (.inr x) h))) (fun x h => (kI (fun x h' => Mod (vfP C) hb h' ∧ cvLt h' C p ∧ PtLt h' (C + 68) p ∧ PtLt h' (C + 75) p ∧ ((x = 1 ∧ vrF p N Bp Kq r s e) ∨ (x = 0 ∧ ¬ vrF p N Bp Kq r s e))) nE) (.inr x) h))) ∧ (¬ x139 = 0 → (kI (fun x h' => Mod (vfP C) hb h' ∧ cvLt h' C p ∧ PtLt h' (C + 68) p ∧ PtLt h' (C + 75) p ∧ ((x = 1 ∧ vrF p N Bp Kq r s e) ∨ (x = 0 ∧ ¬ vrF p N Bp Kq r s e))) nE) (.inl (some (vI 0))) h140))) (fun x h => (kI (fun x h' => Mod (vfP C) hb h' ∧ cvLt h' C p ∧ PtLt h' (C + 68) p ∧ PtLt h' (C + 75) p ∧ ((x = 1 ∧ vrF p N Bp Kq r s e) ∨ (x = 0 ∧ ¬ vrF p N Bp Kq r s e))) nE) (.inr x) h))) (fun x h => (kI (fun x h' => Mod (vfP C) hb h' ∧ cvLt h' C p ∧ PtLt h' (C + 68) p ∧ PtLt h' (C + 75) p ∧ ((x = 1 ∧ vrF p N Bp Kq r s e) ∨ (x = 0 ∧ ¬ vrF p N Bp Kq r s e))) nE) (.inr x) h))) (fun x h => (kI (fun x h' => Mod (vfP C) hb h' ∧ cvLt h' C p ∧ PtLt h' (C + 68) p ∧ PtLt h' (C + 75) p ∧ ((x = 1 ∧ vrF p N Bp Kq r s e) ∨ (x = 0 ∧ ¬ vrF p N Bp Kq r s e))) nE) (.inr x) h))) (fun x h => (kI (fun x h' => Mod (vfP C) hb h' ∧ cvLt h' C p ∧ PtLt h' (C + 68) p ∧ PtLt h' (C + 75) p ∧ ((x = 1 ∧ vrF p N Bp Kq r s e) ∨ (x = 0 ∧ ¬ vrF p N Bp Kq r s e))) nE) (.inr x) h))) (fun x h => (kI (fun x h' => Mod (vfP C) hb h' ∧ cvLt h' C p ∧ PtLt h' (C + 68) p ∧ PtLt h' (C + 75) p ∧ ((x = 1 ∧ vrF p N Bp Kq r s e) ∨ (x = 0 ∧ ¬ vrF p N Bp Kq r s e))) nE) (.inr x) h))) (fun x h => (kI (fun x h' => Mod (vfP C) hb h' ∧ cvLt h' C p ∧ PtLt h' (C + 68) p ∧ PtLt h' (C + 75) p ∧ ((x = 1 ∧ vrF p N Bp Kq r s e) ∨ (x = 0 ∧ ¬ vrF p N Bp Kq r s e))) nE) (.inr x) h))) (fun x h => (kI (fun x h' => Mod (vfP C) hb h' ∧ cvLt h' C p ∧ PtLt h' (C + 68) p ∧ PtLt h' (C + 75) p ∧ ((x = 1 ∧ vrF p N Bp Kq r s e) ∨ (x = 0 ∧ ¬ vrF p N Bp Kq r s e))) nE) (.inr x) h))) (fun x h => (kI (fun x h' => Mod (vfP C) hb h' ∧ cvLt h' C p ∧ PtLt h' (C + 68) p ∧ PtLt h' (C + 75) p ∧ ((x = 1 ∧ vrF p N Bp Kq r s e) ∨ (x = 0 ∧ ¬ vrF p N Bp Kq r s e))) nE) (.inr x) h))) (fun x h => (kI (fun x h' => Mod (vfP C) hb h' ∧ cvLt h' C p ∧ PtLt h' (C + 68) p ∧ PtLt h' (C + 75) p ∧ ((x = 1 ∧ vrF p N Bp Kq r s e) ∨ (x = 0 ∧ ¬ vrF p N Bp Kq r s e))) nE) (.inr x) h)) := by
  have hNW : ∀ v, v < N → v < 4294967296 ^ 8 := fun v hv => Nat.lt_trans hv (by rw [← hN.2.1]; exact bv_lt _ _)
  have eW : e < 4294967296 ^ 8 := by rw [ee]; exact beV_lt DD 0 32
  have H0 := H
  obtain ⟨⟨kC, c0, _⟩, ⟨c1, c2, c10, c11, c12, c13, c14, c15, c16, c17⟩, _, _, b82, b84, b86, b88, b90⟩ := H
  intro r65 e65
  rw [e65.trans c15]
  refine ⟨b86.1, (Big_read_spec (off := 0) (n := 32) (by omega) b86 kd_ (by decide) (by rw [eD, lD]; decide) (by rw [eD, lD]; decide)).nR (fun x66 h67 Q => ?_)⟩
  have e67 := Q.2
  rw [eD, ← ee] at e67
  clear Q
  have M1 : Mod (scP C) h h67 := by rw [e67]; exact sc_wi Mod.rf b86.2.2.2 (Or.inr (Or.inl rfl))
  have v87 : bvE h67 (C + 87) e := by show bv h67 (C + 87) = e; rw [e67]; exact (bv_wiS _ _ _).trans (Nat.mod_eq_of_lt eW)
  clear e67 eW
  have H1 := H0.mod M1
  refine (Ring_reduce_spec (by omega) (hN.sn M1) H1.2.2.2.2.2.2.1 (by omega)).nV (fun h76 e76 => ?_)
  rw [v87.out] at e76
  have M2 : Mod (scP C) h h76 := by rw [e76]; exact sc_wi M1 H1.2.2.2.2.2.2.1.2.2.2 (Or.inr (Or.inl rfl))
  have u87 : bvE h76 (C + 87) (e % N) := by show bv h76 (C + 87) = e % N; rw [e76]; exact (bv_wiS _ _ _).trans (Nat.mod_eq_of_lt (hNW _ (Nat.mod_lt _ (by omega))))
  clear e76 v87 H1 M1
  have H2 := H0.mod M2
  have r2 : h76.r = h.r := M2.r
  intro r82 e82
  rw [r2] at e82
  rw [e82.trans c17]
  have u85 : bvE h76 (C + 85) s := (M2.bv (scN (by omega) (by omega))).trans es
  refine (Ring_invert_spec (by omega) (hN.sn M2) hN2 H2.2.2.2.2.2.2.2.2 H2.2.2.2.2.2.1 ⟨by omega, by omega⟩ ⟨by omega, by omega, by omega⟩).nV (fun h88 Q => ?_)
  obtain ⟨N3, e3⟩ := Q
  rw [u85.out] at e3
  have M3 : Mod (scP C) h h88 := M2.trans (N3.mono (fun x q => q.elim Or.inl (fun q => Or.inr (Or.inr (Or.inr q)))))
  generalize hw : s ^ (N - 2) % N = w at *
  have wN : w < N := by rw [← hw]; exact Nat.mod_lt _ (by omega)
  have t91 : bvE h88 (C + 91) w := bv_lb e3 (hNW _ wN)
  have t87 : bvE h88 (C + 87) (e % N) := (N3.bv (fun q => by simp only [scr] at q; omega)).trans u87
  clear e3 N3 u87 u85 H2 M2 r2
  have H3 := H0.mod M3
  have r3 : h88.r = h.r := M3.r
  intro r92 e92
  rw [r3] at e92
  rw [e92.trans c16]
  refine (Ring_multiply_spec (by omega) (hN.sn M3) H3.2.2.2.2.2.2.2.1 H3.2.2.2.2.2.2.1 H3.2.2.2.2.2.2.2.2 ⟨by omega, by omega, by omega, by omega, by omega⟩ (by omega) (by omega)).nV (fun h98 Q => ?_)
  obtain ⟨N4, e4⟩ := Q
  rw [t87.out, t91.out] at e4
  have M4 : Mod (scP C) h h98 := M3.trans (N4.mono (fun x q => sc_mul (Or.inr (Or.inr (Or.inl rfl))) q))
  have s89 : bvE h98 (C + 89) (e % N * w % N) := bv_lb e4 (hNW _ (Nat.mod_lt _ (by omega)))
  have s91 : bvE h98 (C + 91) w := (N4.bv (by omega)).trans t91
  clear e4 N4 t87 t91 H3 M3 r3
  have H4 := H0.mod M4
  have s83 : bvE h98 (C + 83) r := (M4.bv (scN (by omega) (by omega))).trans er
  refine (Ring_multiply_spec (by omega) (hN.sn M4) H4.2.2.2.2.2.2.2.2 H4.2.2.2.2.1 H4.2.2.2.2.2.2.2.2 ⟨by omega, by omega, by omega, by omega, by omega⟩ (by omega) (by omega)).nV (fun h112 Q => ?_)
  obtain ⟨N5, e5⟩ := Q
  rw [s83.out, s91.out] at e5
  have M5 : Mod (scP C) h h112 := M4.trans (N5.mono (fun x q => sc_mul (Or.inr (Or.inr (Or.inr rfl))) q))
  have f91 : bvE h112 (C + 91) (r * w % N) := bv_lb e5 (hNW _ (Nat.mod_lt _ (by omega)))
  have f89 : bvE h112 (C + 89) (e % N * w % N) := (N5.bv (by omega)).trans s89
  have f83 : bvE h112 (C + 83) r := (M5.bv (scN (by omega) (by omega))).trans er
  clear e5 N5 s83 s89 s91 H4 M4
  have H5 := H0.mod M5
  have r5 : h112.r = h.r := M5.r
  have R5 := hR.sp M5
  have L5 := sc_lt hc M5
  have pb5 := sc_pt (q := C + 35) M5 (by omega) (by omega)
  have pk5 := sc_pt (q := C + 61) M5 (by omega) (by omega)
  have pl5 := sc_pt (q := C + 68) M5 (by omega) (by omega)
  have pr5 := sc_pt (q := C + 75) M5 (by omega) (by omega)
  have MV5 : Mod (vfP C) hb h112 := M0.trans (M5.mono (fun _ q => sc_vf q))
  have N5' := hN.sn M5
  have lb5 := lb_.eqv pb5
  have lk5 := lk.eqv pk5
  have ll5 := ll.eqv pl5
  have lr5 := lr.eqv pr5
  rw [eb] at pb5
  rw [ek] at pk5
  clear pl5 pr5 M5 M0
  intro r115 e115 r119 e119
  rw [r5] at e115 e119
  rw [e115.trans c11, e119.trans c2]
  refine (Cv_times_spec (u := C + 88) (uw := C + 89) (by omega) H5 R5 L5 H5.2.2.2.1.2.2.1 H5.2.2.2.1.1 ll5 lb5 (by omega) (Or.inr ⟨by omega, by omega⟩) (Or.inr (by omega)) H5.2.2.2.2.2.2.2.1 (cvN (by omega) (by omega) (by omega))).nV (fun h121 Q => ?_)
  obtain ⟨⟨M6, R6, L6, ll6⟩, t6⟩ := Q
  rw [f89.out, pb5] at t6
  have pk6 := (cv_pt (o := C + 61) M6 (by omega) (by omega) (by omega)).trans pk5
  have lk6 := lk5.eqv (cv_pt (o := C + 61) M6 (by omega) (by omega) (by omega))
  have lr6 := lr5.eqv (cv_pt (o := C + 75) M6 (by omega) (by omega) (by omega))
  have g91 : bvE h121 (C + 91) (r * w % N) := (M6.bv (cvN (by omega) (by omega) (by omega))).trans f91
  have g83 : bvE h121 (C + 83) r := (M6.bv (cvN (by omega) (by omega) (by omega))).trans f83
  have N6 := N5'.cn M6 (by omega)
  have H6 := H5.mod M6
  have r6 : h121.r = h.r := M6.r.trans r5
  have MV6 : Mod (vfP C) hb h121 := MV5.trans (M6.mono (fun _ q => cv_vf (Or.inl rfl) q))
  clear M6 f89 f91 f83 pb5 pk5 lb5 lk5 ll5 lr5 R5 L5 H5 MV5 N5' r5
  intro r123 e123 r126 e126
  rw [r6] at e123 e126
  rw [e123.trans c12, e126.trans c10]
  refine (Cv_times_spec (u := C + 90) (uw := C + 91) (by omega) H6 R6 L6 H6.2.2.2.1.2.2.2 H6.2.2.2.1.2.1 lr6 lk6 (by omega) (Or.inl (by omega)) (Or.inr (by omega)) H6.2.2.2.2.2.2.2.2 (cvN (by omega) (by omega) (by omega))).nV (fun h128 Q => ?_)
  obtain ⟨⟨M7, R7, L7, lr7⟩, t7⟩ := Q
  rw [g91.out, pk6] at t7
  have pl7 := cv_pt (o := C + 68) M7 (by omega) (by omega) (by omega)
  have ll7 := ll6.eqv pl7
  rw [← pl7] at t6
  have i83 : bvE h128 (C + 83) r := (M7.bv (cvN (by omega) (by omega) (by omega))).trans g83
  have N7 := N6.cn M7 (by omega)
  have H7 := H6.mod M7
  have r7 : h128.r = h.r := M7.r.trans r6
  have MV7 : Mod (vfP C) hb h128 := MV6.trans (M7.mono (fun _ q => cv_vf (Or.inr rfl) q))
  clear M7 g91 g83 pk6 lk6 lr6 ll6 R6 L6 H6 MV6 N6 r6 pl7
  refine (Cv_add_spec (by omega) H7 R7 L7 H7.2.2.2.1.2.2.1 H7.2.2.2.1.2.2.2 ll7 lr7 (by omega) (Or.inl (by omega)) (Or.inl (by omega))).nV (fun h136 Q => ?_)
  obtain ⟨⟨M8, R8, L8, ll8⟩, t8⟩ := Q
  have key : nrm (ptV h136 (C + 68)) = vrS p N Bp Kq r s e := by
    unfold vrS
    rw [t8, ← add_nrm, t6, t7, hw]
  have pr8 := cv_pt (o := C + 75) M8 (by omega) (by omega) (by omega)
  have lr8 := lr7.eqv pr8
  have j83 : bvE h136 (C + 83) r := (M8.bv (cvN (by omega) (by omega) (by omega))).trans i83
  have N8 := N7.cn M8 (by omega)
  have H8 := H7.mod M8
  have r8 : h136.r = h.r := M8.r.trans r7
  have MV8 : Mod (vfP C) hb h136 := MV7.trans (M8.mono (fun _ q => cv_vf (Or.inl rfl) q))
  clear M8 i83 ll7 lr7 R7 L7 H7 MV7 N7 r7 pr8 t6 t7 t8
  have P8 := H8.2.2.2.1.2.2.1
  refine ⟨P8.1.1, (Pt_none_spec (by omega) P8.1.1 P8.1.2.2.2 P8.2.2.2).nI (fun x139 h140 Q => ?_)⟩
  rw [Q.1, Q.2]
  clear Q
  have z8 : bv h136 (C + 68 + 6) = 0 ↔ (vrS p N Bp Kq r s e).2.2 = 0 := by
    rw [← key, nrm_z]
    exact Iff.rfl
  by_cases cz : bv h136 (C + 68 + 6) = 0
  · rw [if_pos cz]
    exact ⟨fun c => absurd c (by decide), fun _ => ⟨MV8, L8, ll8, lr8, Or.inr ⟨rfl, fun q => q.2.1 (z8.mp cz)⟩⟩⟩
  · rw [if_neg cz]
    refine ⟨fun _ => ?_, fun c => absurd (by decide) c⟩
    refine (Cv_plain_spec (o := C + 75) (by omega) H8 R8 L8 P8 H8.2.2.2.1.2.2.2 ll8 lr8 (by omega) (Or.inl (by omega)) (Or.inl (by omega)) hp).nV (fun h146 Q => ?_)
    obtain ⟨⟨M9, R9, L9, ll9⟩, t9⟩ := Q
    rw [← pl_nrm hp, key] at t9
    have pr9 := cv_pt (o := C + 75) M9 (by omega) (by omega) (by omega)
    have lr9 := lr8.eqv pr9
    have k83 : bvE h146 (C + 83) r := (M9.bv (cvN (by omega) (by omega) (by omega))).trans j83
    have N9 := N8.cn M9 (by omega)
    have H9 := H8.mod M9
    have MV9 : Mod (vfP C) hb h146 := MV8.trans (M9.mono (fun _ q => cv_vf (Or.inl rfl) q))
    clear M9 j83 lr8 ll8 R8 L8 H8 MV8 N8 r8 pr9 key
    have P9 := H9.2.2.2.1.2.2.1
    have nz : (vrS p N Bp Kq r s e).2.2 ≠ 0 := fun q => cz (z8.mpr q)
    intro r157 e157
    rw [e157.trans P9.1.2.1]
    have x9 : bv h146 (C + 68 + 2) = (plF p (vrS p N Bp Kq r s e)).1 := (Prod.mk.inj t9).1
    refine (Ring_reduce_spec (by omega) N9 P9.2.1 (by omega)).nV (fun h159 e159 => ?_)
    rw [x9] at e159
    generalize hx : (plF p (vrS p N Bp Kq r s e)).1 = X at *
    have XN : X % N < N := Nat.mod_lt _ (by omega)
    have MV10 : Mod (vfP C) hb h159 := by rw [e159]; exact vf_wi MV9 P9.2.1.2.2.2 (vf_o (k := 70) (by omega))
    have w70 : bvE h159 (C + 70) (X % N) := by show bv h159 (C + 70) = X % N; rw [e159]; exact (bv_wiS _ _ _).trans (Nat.mod_eq_of_lt (hNW _ XN))
    have M10 : Mod (fun y => y = C + 70) h146 h159 := by rw [e159]; exact Mod.wi (by rw [lb_len, P9.2.1.2.2.2]) rfl
    clear e159
    have w83 : bvE h159 (C + 83) r := (M10.bv (by omega)).trans k83
    have H10 := H9.mod M10
    have P10 := H10.2.2.2.1.2.2.1
    have xl : X % N < p := Nat.lt_of_le_of_lt (Nat.mod_le _ _) (by rw [← x9]; exact ll9.1)
    have L10 : cvLt h159 C p := by
      unfold cvLt
      rw [M10.bv (x := C + 43) (by omega), M10.bv (x := C + 45) (by omega), M10.bv (x := C + 47) (by omega), M10.bv (x := C + 49) (by omega), M10.bv (x := C + 51) (by omega), M10.bv (x := C + 53) (by omega)]
      exact L9
    have ll10 : PtLt h159 (C + 68) p := ⟨by show bv h159 (C + 70) < p; rw [w70.out]; exact xl, by rw [M10.bv (x := C + 68 + 4) (by omega)]; exact ll9.2.1, by rw [M10.bv (x := C + 68 + 6) (by omega)]; exact ll9.2.2⟩
    have lr10 : PtLt h159 (C + 75) p := ⟨by rw [M10.bv (x := C + 75 + 2) (by omega)]; exact lr9.1, by rw [M10.bv (x := C + 75 + 4) (by omega)]; exact lr9.2.1, by rw [M10.bv (x := C + 75 + 6) (by omega)]; exact lr9.2.2⟩
    have px : BigAt h159 (C + 68 + 1) (C + 70) := P10.2.1
    refine ⟨px.1, (Big_compare_spec (by omega) px H10.2.2.2.2.1).nI (fun x178 h179 Q => ?_)⟩
    rw [Q.1, Q.2, w70.out, w83.out, cmpI_eq]
    clear Q
    refine ⟨fun c => ⟨MV10, L10, ll10, lr10, Or.inr ⟨rfl, fun q => c (by rw [← hx]; exact q.2.2)⟩⟩, fun c => ⟨MV10, L10, ll10, lr10, Or.inl ⟨rfl, hr, nz, by rw [hx]; exact c⟩⟩⟩
end Vf

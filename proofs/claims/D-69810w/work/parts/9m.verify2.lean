/-! whether a signature is right, by the component: the whole -/
set_option maxRecDepth 100000
/-- whether a signature with the numbers r and s is right for the digest e by the key's bytes -/
def okS (p N : Nat) (Bp : Pt) (L : List Int32) (n r s e : Nat) : Prop := ∃ P : Nat × Nat, keyF p L n = some P ∧ vrF p N Bp (P.1, P.2, 1) r s e
theorem dc_pn {C q x : Nat} (hq : q = C + 68 ∨ q = C + 75 ∨ q = C + 35) (hx : x = q + 2 ∨ x = q + 4 ∨ x = q + 6) : ¬ dcP C x := fun z => by
  simp only [dcP] at z
  omega
theorem dc_pt {h h1 : AH} {C q : Nat} (M : Mod (dcP C) h h1) (hq : q = C + 68 ∨ q = C + 75 ∨ q = C + 35) : ptV h1 q = ptV h q := by
  have a := M.bv (x := q + 2) (dc_pn hq (Or.inl rfl))
  have b := M.bv (x := q + 4) (dc_pn hq (Or.inr (Or.inl rfl)))
  have c := M.bv (x := q + 6) (dc_pn hq (Or.inr (Or.inr rfl)))
  unfold ptV
  rw [a, b, c]
theorem tw_pt {h h1 : AH} {C q : Nat} (M : Mod (fun y => y = C + 83 ∨ y = C + 85) h h1) (hq : q + 6 ≤ C + 82) : ptV h1 q = ptV h q := by
  have a := M.bv (x := q + 2) (by omega)
  have b := M.bv (x := q + 4) (by omega)
  have c := M.bv (x := q + 6) (by omega)
  unfold ptV
  rw [a, b, c]
theorem tw_lt {h h1 : AH} {C p : Nat} (hc : cvLt h C p) (M : Mod (fun y => y = C + 83 ∨ y = C + 85) h h1) : cvLt h1 C p := by
  unfold cvLt
  rw [M.bv (x := C + 43) (by omega), M.bv (x := C + 45) (by omega), M.bv (x := C + 47) (by omega), M.bv (x := C + 49) (by omega), M.bv (x := C + 51) (by omega), M.bv (x := C + 53) (by omega)]
  exact hc
section Vf2
variable {G : Gx} {d : Nat} {h : AH} {C p N : Nat} {Bp : Pt} {sg dg kb n n1 n2 : Nat} {S DD L : List Int32}
theorem Cv_verify_spec (hd : 8 ≤ d) (H : CvB h C) (hR : RingAt h (C + 1) p) (hN : RingAt h (C + 18) N) (hp : 7 < p) (hN2 : 2 < N) (hc : cvLt h C p) (lb_ : PtLt h (C + 35) p) (ll : PtLt h (C + 68) p) (lr : PtLt h (C + 75) p) (eb : ptV h (C + 35) = Bp)
    (ks : h.kd sg = 101) (eS : h.ai sg = S) (s1 : S.getD 3 0 = nI n1) (hn1 : n1 < 128) (s2 : S.getD (5 + n1) 0 = nI n2) (hn2 : n2 < 128) (ls : 6 + n1 + n2 ≤ S.length) (ls2 : S.length < 2 ^ 31)
    (kd_ : h.kd dg = 101) (eD : h.ai dg = DD) (lD : DD.length = 32) (kk : h.kd kb = 101) (eK : h.ai kb = L) (hl : n ≤ L.length) (hl2 : L.length < 2 ^ 31) :
    Cw G mX3_verify d 0 [vR C, vR sg, vI 0, vR dg, vR kb, vI 0, vI (nI n)] h (kI (fun x h' => Mod (vfP C) h h' ∧ cvLt h' C p ∧ PtLt h' (C + 68) p ∧ PtLt h' (C + 75) p ∧ ((x = 1 ∧ okS p N Bp L n (sgV S 4 n1) (sgV S (6 + n1) n2) (beV DD 0 32)) ∨ (x = 0 ∧ ¬ okS p N Bp L n (sgV S 4 n1) (sgV S (6 + n1) n2) (beV DD 0 32)))) nE) := by
  obtain ⟨d, rfl⟩ : ∃ d', d = d' + 1 := ⟨d - 1, by omega⟩
  have H0 := H
  obtain ⟨⟨kC, c0, _⟩, ⟨c1, c2, c10, c11, c12, c13, c14, c15, c16, c17⟩, _, _, b82, b84, b86, b88, b90⟩ := H
  refine eX3_verify h C sg 0 dg kb 0 (nI n) (fun w => sX3_verify_0 h C sg 0 dg kb 0 (nI n) ⟨kC, ?_⟩)
  rw [show (0 : Int32) + 2 + 1 = nI 3 from rfl, show (0 : Int32) + 2 + 2 = nI 4 from rfl, show (0 : Int32) + 2 = nI 2 from rfl]
  refine (Cv_decode_spec (by omega) H0 hR hp hc kk eK hl hl2).nI (fun x1 h2 Q => ?_)
  obtain ⟨D2, L2, dj⟩ := Q
  have M2 : Mod (vfP C) h h2 := D2.mono (fun _ q => dc_vf q)
  have pt2 : ∀ q, q = C + 68 ∨ q = C + 75 ∨ q = C + 35 → ptV h2 q = ptV h q := fun q hq => dc_pt D2 hq
  have ll2 := ll.eqv (pt2 _ (Or.inl rfl))
  have lr2 := lr.eqv (pt2 _ (Or.inr (Or.inl rfl)))
  have lb2 := lb_.eqv (pt2 _ (Or.inr (Or.inr rfl)))
  have eb2 := (pt2 _ (Or.inr (Or.inr rfl))).trans eb
  have aS : h2.ai sg = S := (D2.ai (dc_kd H0 hR ks)).trans eS
  have aD : h2.ai dg = DD := (D2.ai (dc_kd H0 hR kd_)).trans eD
  have r2 : h2.r = h.r := D2.r
  have k2 : h2.kd = h.kd := D2.kd
  clear pt2 D2
  rcases dj with ⟨rfl, hk⟩ | ⟨rfl, P, hk, p1, p2, ept⟩
  · exact ⟨fun z => absurd rfl z, fun _ => ⟨M2, L2, ll2, lr2, Or.inr ⟨rfl, fun q => by
      obtain ⟨P, e, _⟩ := q
      rw [hk] at e
      exact absurd e (by simp)⟩⟩⟩
  refine ⟨fun _ => ?_, fun c => absurd c (by decide)⟩
  have okI : okS p N Bp L n (sgV S 4 n1) (sgV S (6 + n1) n2) (beV DD 0 32) ↔ vrF p N Bp (P.1, P.2, 1) (sgV S 4 n1) (sgV S (6 + n1) n2) (beV DD 0 32) := ⟨fun q => by
      obtain ⟨P', e, v⟩ := q
      rw [hk] at e
      obtain rfl := Option.some.inj e
      exact v, fun q => ⟨P, hk, q⟩⟩
  have lk2 : PtLt h2 (C + 61) p := by
    unfold ptV at ept
    obtain ⟨a, b⟩ := Prod.mk.inj ept
    obtain ⟨b, c⟩ := Prod.mk.inj b
    exact ⟨by rw [a]; exact p1, by rw [b]; exact p2, by rw [c]; omega⟩
  intro r6 e6
  rw [r2] at e6
  rw [e6.trans c13]
  have H2 := H0.mod M2
  have rW := sgV_lt S 4 n1
  have sW := sgV_lt S (6 + n1) n2
  have n83 : sg ≠ C + 83 := fun e => by rw [e, b82.2.2.1] at ks; exact absurd ks (by decide)
  have n85 : sg ≠ C + 85 := fun e => by rw [e, b84.2.2.1] at ks; exact absurd ks (by decide)
  have d83 : dg ≠ C + 83 := fun e => by rw [e, b82.2.2.1] at kd_; exact absurd kd_ (by decide)
  have d85 : dg ≠ C + 85 := fun e => by rw [e, b84.2.2.1] at kd_; exact absurd kd_ (by decide)
  have b82' : BigAt h2 (C + 82) (C + 83) := H2.2.2.2.2.1
  refine (Cv_part_spec (C := C) (at_ := 2) (n := n1) (by omega) b82' (by rw [k2]; exact ks) (by rw [aS]; omega) (by rw [aS]; exact ls2) (by rw [aS]; exact s1) hn1).nV (fun h8 e8 => ?_)
  rw [aS] at e8
  have e8' : h8 = h2.wi (C + 83) (lb (sgV S 4 n1)) := e8
  clear e8
  generalize sgV S 4 n1 = r at *
  have M3 : Mod (vfP C) h h8 := by rw [e8']; exact vf_wi M2 b82'.2.2.2 (vf_o (k := 83) (by omega))
  have T3 : Mod (fun y => y = C + 83 ∨ y = C + 85) h2 h8 := by rw [e8']; exact Mod.wi (by rw [lb_len, b82'.2.2.2]) (Or.inl rfl)
  have v83 : bvE h8 (C + 83) r := by show bv h8 (C + 83) = r; rw [e8']; exact (bv_wiS _ _ _).trans (Nat.mod_eq_of_lt rW)
  clear e8' rW
  have aS3 : h8.ai sg = S := (T3.ai (fun z => z.elim n83 n85)).trans aS
  have k3 : h8.kd = h.kd := M3.kd
  have r3 : h8.r = h.r := M3.r
  intro r10 e10
  rw [r3] at e10
  rw [e10.trans c14, aS3, pk_cl 3 rfl (by decide), s1, nI_add]
  have H3 := H0.mod M3
  have b84' : BigAt h8 (C + 84) (C + 85) := H3.2.2.2.2.2.1
  refine ⟨by rw [k3]; exact ks, pk_in 3 _ (by omega), ?_⟩
  refine (Cv_part_spec (C := C) (at_ := 4 + n1) (n := n2) (by omega) b84' (by rw [k3]; exact ks) (by rw [aS3]; omega) (by rw [aS3]; exact ls2) (by rw [aS3, show 4 + n1 + 1 = 5 + n1 by omega]; exact s2) hn2).nV (fun h14 e14 => ?_)
  rw [aS3, show 4 + n1 + 2 = 6 + n1 by omega] at e14
  have e14' : h14 = h8.wi (C + 85) (lb (sgV S (6 + n1) n2)) := e14
  clear e14
  generalize sgV S (6 + n1) n2 = s at *
  have M4 : Mod (vfP C) h h14 := by rw [e14']; exact vf_wi M3 b84'.2.2.2 (vf_o (k := 85) (by omega))
  have T4 : Mod (fun y => y = C + 83 ∨ y = C + 85) h2 h14 := by rw [e14']; exact T3.trans (Mod.wi (by rw [lb_len, b84'.2.2.2]) (Or.inr rfl))
  have u85 : bvE h14 (C + 85) s := by show bv h14 (C + 85) = s; rw [e14']; exact (bv_wiS _ _ _).trans (Nat.mod_eq_of_lt sW)
  have u83 : bvE h14 (C + 83) r := by show bv h14 (C + 83) = r; rw [e14', bv_wiN (by omega)]; exact v83
  clear e14' sW v83 T3 M3 aS3 k3 r3 H3 b84'
  have L4 := tw_lt L2 T4
  have pl4 := ll2.eqv (tw_pt (q := C + 68) T4 (by omega))
  have pr4 := lr2.eqv (tw_pt (q := C + 75) T4 (by omega))
  have pb4 := lb2.eqv (tw_pt (q := C + 35) T4 (by omega))
  have pk4 := lk2.eqv (tw_pt (q := C + 61) T4 (by omega))
  have eb4 := (tw_pt (q := C + 35) T4 (by omega)).trans eb2
  have ek4 := (tw_pt (q := C + 61) T4 (by omega)).trans ept
  have aD4 : h14.ai dg = DD := (T4.ai (fun z => z.elim d83 d85)).trans aD
  have H4 := H0.mod M4
  have r4 : h14.r = h.r := M4.r
  have kd4 : h14.kd = h.kd := M4.kd
  clear L2 ll2 lr2 lb2 lk2 eb2 ept T4 aD aS H2 b82'
  have c82 : BigAt h14 (C + 82) (C + 83) := H4.2.2.2.2.1
  have c84 : BigAt h14 (C + 84) (C + 85) := H4.2.2.2.2.2.1
  have R4 := hR.vp M4
  have N4 := hN.vn M4
  have no : ¬ (r ≠ 0 ∧ s ≠ 0 ∧ r < N ∧ s < N) → (kI (fun x h' => Mod (vfP C) h h' ∧ cvLt h' C p ∧ PtLt h' (C + 68) p ∧ PtLt h' (C + 75) p ∧ ((x = 1 ∧ okS p N Bp L n r s (beV DD 0 32)) ∨ (x = 0 ∧ ¬ okS p N Bp L n r s (beV DD 0 32)))) nE) (.inl (some (vI 0))) h14 := fun z => ⟨M4, L4, pl4, pr4, Or.inr ⟨rfl, fun q => z (okI.mp q).1⟩⟩
  refine ⟨c82.1, (Big_isZero_spec (by omega) c82).nI (fun x19 h20 Q => ?_)⟩
  rw [Q.1, Q.2, u83.out]
  clear Q
  by_cases z1 : r = 0
  · rw [if_pos z1]
    exact ⟨fun _ => no (fun q => q.1 z1), fun c => absurd c (by decide)⟩
  rw [if_neg z1]
  refine ⟨fun z => absurd rfl z, fun _ => ⟨c84.1, (Big_isZero_spec (by omega) c84).nI (fun x27 h28 Q => ?_)⟩⟩
  rw [Q.1, Q.2, u85.out]
  clear Q
  by_cases z2 : s = 0
  · rw [if_pos z2]
    exact ⟨fun _ => no (fun q => q.2.1 z2), fun c => absurd c (by decide)⟩
  rw [if_neg z2]
  refine ⟨fun z => absurd rfl z, fun _ r34 e34 => ?_⟩
  rw [r4] at e34
  rw [e34.trans c1]
  refine ⟨N4.1.1, (Ring_modulus_spec (by omega) N4.1).nR (fun x35 h36 Q => ?_)⟩
  rw [Q.1, Q.2]
  clear Q
  refine (Big_compare_spec (by omega) c82 N4.1.2.2.2.2.2.2.2.2.2.2.1).nI (fun x38 h39 Q => ?_)
  rw [Q.1, Q.2, u83.out, N4.2.1, cmpI_ge]
  clear Q
  refine ⟨fun c => no (fun q => absurd q.2.2.1 (Nat.not_lt.mpr c)), fun c => ?_⟩
  refine (Ring_modulus_spec (by omega) N4.1).nR (fun x52 h53 Q => ?_)
  rw [Q.1, Q.2]
  clear Q
  refine (Big_compare_spec (by omega) c84 N4.1.2.2.2.2.2.2.2.2.2.2.1).nI (fun x56 h57 Q => ?_)
  rw [Q.1, Q.2, u85.out, N4.2.1, cmpI_lt]
  clear Q
  refine ⟨fun c2 => ?_, fun c2 => no (fun q => c2 q.2.2.2)⟩
  have tl := vf_tail (G := G) (d := d) (hb := h) (h := h14) (C := C) (p := p) (N := N) (Bp := Bp) (Kq := (P.1, P.2, 1)) (dg := dg) (r := r) (s := s) (e := beV DD 0 32) (DD := DD) (by omega) M4 H4 R4 N4 (by omega) hN2 L4 pb4 pk4 pl4 pr4 eb4 ek4 u83 u85 ⟨z1, z2, Nat.lt_of_not_le c, c2⟩ (by rw [kd4]; exact kd_) aD4 lD rfl
  simp only [← okI] at tl
  exact tl
end Vf2

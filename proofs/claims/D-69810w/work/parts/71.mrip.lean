/-! printed by gen/mrip.py: RIPEMD-160 of a block, by the reference -/
set_option maxRecDepth 100000
def ooN : List Nat := ordN ++ othN
def ttN : List Nat := trnN ++ otnN
theorem ooN_lt : ∀ k, k < 160 → ooN.getD k 0 < 16 ∧ ttN.getD k 0 < 32 ∧ 0 < ttN.getD k 0 := by decide +kernel
theorem ooN_k : ∀ k, k < 80 → ooN.getD k 0 = ordN.getD k 0 ∧ ooN.getD (80 + k) 0 = othN.getD k 0 ∧ ttN.getD k 0 = trnN.getD k 0 ∧ ttN.getD (80 + k) 0 = otnN.getD k 0 := by decide +kernel
theorem aaL_k : ∀ k, k < 5 → (adL ++ oaL).getD k 0 = adL.getD k 0 ∧ (adL ++ oaL).getD (5 + k) 0 = oaL.getD k 0 := by decide +kernel
/-- the reference's tables stand -/
def MdT (h : AH) (M : Nat) : Prop := h.ai (M + 10) = ooN.map nI ∧ h.ai (M + 11) = ttN.map nI ∧ h.ai (M + 12) = adL ++ oaL
section MRip
variable {G : Gx} {d : Nat} {h : AH} {M : Nat}
theorem side_tail {Φ : Out → AH → Prop} {B : List Int32} {r i : Nat} {more X u3 u5 u7 : Int32} (hd : 1 ≤ d) (H : MdS h M) (T : MdT h M) (hk : h.kd r = 100) (hl : (h.ai r).length = 5) (hi : i < 160) (hW : ∀ j, j < 16 → (h.ai (M + 3)).getD j 0 = leW B j) (e3 : u3 = (h.ai r).getD 1 0) (e5 : u5 = (h.ai r).getD 2 0) (e7 : u7 = (h.ai r).getD 3 0)
    (hΦ : Φ (.inl none) (h.wi r (rpStep (h.ai r) ((X + leW B (ooN.getD i 0)) + more) (ttN.getD i 0)))) :
    vp_in 0 (h.ai r).length ∧ h.kd M = 24 ∧ ∀ r154 : Nat, r154 = (h.r 24002 M) → ∀ r155 : Nat, r155 = (h.r 24009 M) → h.kd r155 = 100 ∧ vp_in (nI i) (h.ai r155).length ∧ h.kd r154 = 100 ∧ vp_in ((h.ai r155).getD ((nI i).toNatClampNeg) 0) (h.ai r154).length ∧ ∀ r160 : Nat, r160 = (h.r 24010 M) → h.kd r160 = 100 ∧ vp_in (nI i) (h.ai r160).length ∧ Cw G mX24_turn d 0 [vI (((((h.ai r).getD ((0 : Int32).toNatClampNeg) 0) + X) + ((h.ai r154).getD (((h.ai r155).getD ((nI i).toNatClampNeg) 0).toNatClampNeg) 0)) + more), vI ((h.ai r160).getD ((nI i).toNatClampNeg) 0)] h (kI (fun x163 h164 => vp_in 4 (h164.ai r).length ∧ ∀ u167 : Int32, u167 = (x163 + ((h164.ai r).getD ((4 : Int32).toNatClampNeg) 0)) → vp_in 4 (h164.ai r).length ∧ vp_in 0 (h164.ai r).length ∧ ∀ h170 : AH, h170 = h164.wi r ((h164.ai r).set ((0 : Int32).toNatClampNeg) ((h164.ai r).getD ((4 : Int32).toNatClampNeg) 0)) → vp_in 4 (h170.ai r).length ∧ ∀ h173 : AH, h173 = h170.wi r ((h170.ai r).set ((4 : Int32).toNatClampNeg) u7) → Cw G mX24_turn d 0 [vI u5, vI 10] h173 (kI (fun x174 h175 => vp_in 3 (h175.ai r).length ∧ ∀ h179 : AH, h179 = h175.wi r ((h175.ai r).set ((3 : Int32).toNatClampNeg) x174) → vp_in 2 (h179.ai r).length ∧ ∀ h182 : AH, h182 = h179.wi r ((h179.ai r).set ((2 : Int32).toNatClampNeg) u3) → vp_in 1 (h182.ai r).length ∧ ∀ h185 : AH, h185 = h182.wi r ((h182.ai r).set ((1 : Int32).toNatClampNeg) u167) → Φ (.inl none) h185) (fun x h => Φ (.inr x) h))) (fun x h => Φ (.inr x) h)) := by
  obtain ⟨kM, ⟨r0, r1, r2, r3, r4, r8, r9, r10, r11, r12, r13, r14⟩, ⟨k1, k2, k3, k4, k5, k9, k10, k11, k12, k13, k14, k15⟩, ⟨l1, l2, l3, l4, l5, l9, l10, l11, l12, l13, l14, l15⟩⟩ := H
  obtain ⟨t10, t11, t12⟩ := T
  obtain ⟨x1, x2, x3⟩ := ooN_lt i hi
  have e160 : ooN.length = 160 ∧ ttN.length = 160 := by decide
  rw [hl]
  refine ⟨pk_in 0 5 (by decide), kM, fun q15 y15 q16 y16 => ?_⟩
  rw [y15.trans r2, y16.trans r9, t10, List.length_map, e160.1, pk_cl i rfl (by omega), map_getD, l3]
  refine ⟨k10, pk_in i 160 hi, k3, pk_in (ooN.getD i 0) 64 (by omega), fun q21 y21 => ?_⟩
  rw [y21.trans r10, t11, List.length_map, e160.2, map_getD, pk_cl (ooN.getD i 0) rfl (by omega), hW _ x1, cl0]
  refine ⟨k11, pk_in i 160 hi, (turn_spec hd _ (n := ttN.getD i 0) (by omega)).nI (fun x24 h25 Q => ?_)⟩
  obtain ⟨rfl, rfl⟩ := Q
  rw [hl, cl4]
  refine ⟨pk_in 4 5 (by decide), fun u28 e28 => ⟨pk_in 4 5 (by decide), pk_in 0 5 (by decide), fun h31 e31 => ?_⟩⟩
  subst e31
  rw [AH.ai_wiS, List.length_set, hl]
  refine ⟨pk_in 4 5 (by decide), fun h34 e34 => ?_⟩
  rw [AH.wi_wi] at e34
  subst e34
  refine (turn_spec hd _ (n := 10) (by decide)).nI (fun x35 h36 Q => ?_)
  obtain ⟨rfl, rfl⟩ := Q
  rw [AH.ai_wiS, List.length_set, List.length_set, hl, cl3]
  refine ⟨pk_in 3 5 (by decide), fun h40 e40 => ?_⟩
  rw [AH.wi_wi] at e40
  subst e40
  rw [AH.ai_wiS, List.length_set, List.length_set, List.length_set, hl, cl2]
  refine ⟨pk_in 2 5 (by decide), fun h43 e43 => ?_⟩
  rw [AH.wi_wi] at e43
  subst e43
  rw [AH.ai_wiS, List.length_set, List.length_set, List.length_set, List.length_set, hl, cl1]
  refine ⟨pk_in 1 5 (by decide), fun h46 e46 => ?_⟩
  rw [AH.wi_wi] at e46
  subst e46
  refine cast ?_ hΦ
  congr 2
  refine (five (by simp only [List.length_set, hl]) ?_ ?_ ?_ ?_ ?_).symm
  · simp [getD_sif, hl]
  · rw [getD_set_eq (by simp only [List.length_set, hl]; decide), e28]
    simp only [Int32.add_assoc]
  · simp [getD_sif, hl, e3]
  · simp [getD_sif, hl, e5]
  · simp [getD_sif, hl, e7]
theorem MD_side_spec {B : List Int32} {r f i : Nat} {more : Int32} (hd : 2 ≤ d) (H : MdS h M) (T : MdT h M) (hk : h.kd r = 100) (hl : (h.ai r).length = 5) (hf : f < 5) (hi : i < 160) (hW : ∀ j, j < 16 → (h.ai (M + 3)).getD j 0 = leW B j) :
    Cw G mX24_side d 0 [vR M, vR r, vI (nI f), vI (nI i), vI more] h (kV (fun h' => h' = h.wi r (rpStep (h.ai r) ((tdF f ((h.ai r).getD 1 0) ((h.ai r).getD 2 0) ((h.ai r).getD 3 0) + leW B (ooN.getD i 0)) + more) (ttN.getD i 0))) nE) := by
  obtain ⟨d, rfl⟩ : ∃ d', d = d' + 1 := ⟨d - 1, by omega⟩
  have hd1 : 1 ≤ d := by omega
  have c5 : f = 0 ∨ f = 1 ∨ f = 2 ∨ f = 3 ∨ f = 4 := by omega
  refine eX24_side h M r (nI f) (nI i) more (fun _ => sX24_side_0 h M r (nI f) (nI i) more ?_)
  rw [hl, cl1, cl2, cl3]
  refine ⟨hk, pk_in 1 5 (by decide), fun u3 e3 => ⟨pk_in 2 5 (by decide), fun u5 e5 => ⟨pk_in 3 5 (by decide), fun u7 e7 => ?_⟩⟩⟩
  have tl : ∀ X, X = tdF f u3 u5 u7 → _ := fun X hX => side_tail (G := G) (d := d) (more := more) (X := X) (Φ := kV (fun h' => h' = h.wi r (rpStep (h.ai r) ((tdF f ((h.ai r).getD 1 0) ((h.ai r).getD 2 0) ((h.ai r).getD 3 0) + leW B (ooN.getD i 0)) + more) (ttN.getD i 0))) nE) hd1 H T hk hl hi hW e3 e5 e7 (by show _ = _; rw [hX, e3, e5, e7])
  rw [hl] at tl
  rcases c5 with rfl | rfl | rfl | rfl | rfl
  · exact ⟨fun c => absurd rfl c, fun _ => tl _ rfl⟩
  · exact ⟨fun _ => ⟨fun c => absurd rfl c, fun _ u eu => tl u (eu.trans rfl)⟩, fun c => absurd c (by decide)⟩
  · exact ⟨fun _ => ⟨fun _ => ⟨fun c => absurd rfl c, fun _ u eu => tl u (eu.trans rfl)⟩, fun c => absurd c (by decide)⟩, fun c => absurd c (by decide)⟩
  · exact ⟨fun _ => ⟨fun _ => ⟨fun _ => ⟨fun c => absurd rfl c, fun _ u eu => tl u (eu.trans rfl)⟩, fun c => absurd c (by decide)⟩, fun c => absurd c (by decide)⟩, fun c => absurd c (by decide)⟩
  · exact ⟨fun _ => ⟨fun _ => ⟨fun _ => ⟨fun _ u eu => tl u (eu.trans rfl), fun c => absurd c (by decide)⟩, fun c => absurd c (by decide)⟩, fun c => absurd c (by decide)⟩, fun c => absurd c (by decide)⟩
end MRip

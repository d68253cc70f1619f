/-! the middle of times, the component -/
set_option maxRecDepth 100000
section Mid
variable {G : Gx} {d : Nat} {h : AH} {ht : Nat} {c : Nat → Nat} {tm : Nat → Int64}
/-- the middle of the last times of a path -/
def mdT_ (ht : Nat) (tm : Nat → Int64) : Int64 := (insN (List.replicate 11 0) (fun i => tm (ht - i)) (min 11 (ht + 1))).getD (min 11 (ht + 1) / 2) 0
set_option maxHeartbeats 1000000 in
theorem X1_middle_spec (hd : 1 ≤ d) (P : PthC h ht c) (hz : ∀ i, i ≤ ht → c i ≠ 0 ∧ c i < h.z) (ht_ : ∀ i, i ≤ ht → h.l 15007 (c i) = tm i) (hh : ht < 2 ^ 16) : Cw G mX1_middle d 0 [vR (c ht)] h (kJ (fun x h' => x = mdT_ ht tm ∧ Same noP h h' ∧ h'.z = h.z + 1 ∧ h'.s = h.s + 11) nE) := by
  obtain ⟨d, rfl⟩ : ∃ d', d = d' + 1 := ⟨d - 1, by omega⟩
  refine eX1_middle h (c ht) (fun _ => sX1_middle_0 h (c ht) (fun q1 e1 _ h2 e2 => ?_))
  subst e1
  have k2 : h2.kd h.z = 103 := by rw [e2, AH.kd_nw, if_pos rfl]
  have a2 : h2.al h.z = List.replicate 11 0 := by rw [e2, AH.al_nw, if_pos rfl]
  have S2 : Same noP h h2 := by rw [e2]; exact Same.rf.new _ _ _ _ _
  have z2 : h2.z = h.z + 1 := by rw [e2]; rfl
  have s2 : h2.s = h.s + 11 := by rw [e2]; rfl
  clear e2
  have old : ∀ i, i ≤ ht → eqAt h h2 (c i) := fun i hi => S2.2.2 _ (hz i hi).2 id
  have fr : ∀ T : List Int64, T.length = 11 → Same noP h (h2.wl h.z T) ∧ (h2.wl h.z T).z = h.z + 1 ∧ (h2.wl h.z T).s = h.s + 11 := fun T l => ⟨S2.wl _ (by rw [l, a2, List.length_replicate]) (Or.inr (Nat.le_refl _)), z2, s2⟩
  have rd : ∀ T : List Int64, (h2.wl h.z T).al h.z = T := fun T => if_pos rfl
  -- one time comes to its place
  have ins : ∀ (n : Nat) (v : Int64) (r : Nat), n < 11 → h2.kd r = 15 → h2.l 15007 r = v → ∀ (k : Nat) (T F : List Int64), T.length = 11 → k ≤ n → insF T v k = F → Aw G mX1_middle (d + 1) 0 h (kJ (fun x h' => x = mdT_ ht tm ∧ Same noP h h' ∧ h'.z = h.z + 1 ∧ h'.s = h.s + 11) nE) 9 [vU, vR h.z, vI (nI (n + 1)), vR (h2.r 15004 r), vU] [] (h2.wl h.z F) → Aw G mX1_middle (d + 1) 0 h (kJ (fun x h' => x = mdT_ ht tm ∧ Same noP h h' ∧ h'.z = h.z + 1 ∧ h'.s = h.s + 11) nE) 22 [vU, vR h.z, vI (nI n), vR r, vI (nI k)] [] (h2.wl h.z T) := by
    intro n v r hn kr lv k
    induction k with
    | zero =>
      intro T F lT hk hF nx
      refine sX1_middle_22 _ h.z (nI n) r (nI 0) ⟨fun _ => ⟨kr, k2, ?_⟩, fun q => absurd (by decide) q⟩
      rw [rd, lT, AH.wl_wl, nI_1, show (h2.wl h.z T).l 15007 r = v from lv, show (nI 0).toNatClampNeg = 0 from rfl]
      refine ⟨pk_in 0 11 (by decide), fun h5 e5 r7 e7 => ?_⟩
      rw [e5] at e7 ⊢
      rw [show r7 = h2.r 15004 r from e7, show T.set 0 v = F from hF]
      exact nx
    | succ k ih =>
      intro T F lT hk hF nx
      refine sX1_middle_22 _ h.z (nI n) r (nI (k + 1)) (pk_le (k + 1) 0 (fun q => absurd q (by omega)) (fun _ => ⟨k2, ?_⟩))
      rw [rd, lT, show nI (k + 1) - 1 = nI k by rw [show (1 : Int32) = nI 1 from rfl, pk_sub (by omega), Nat.add_sub_cancel], show nI (k + 1) + (-1) = nI k from pk_m1 k, pk_cl k rfl (by omega), pk_cl (k + 1) rfl (by omega), show (h2.wl h.z T).l 15007 r = v from lv, AH.wl_wl, AH.wl_wl, nI_1]
      unfold insF at hF
      refine ⟨pk_in k 11 (by omega), kr, fun q => ⟨pk_in (k + 1) 11 (by omega), fun h13 e13 r15 e15 => ?_⟩, fun q => ⟨pk_in k 11 (by omega), pk_in (k + 1) 11 (by omega), fun h18 e18 => ?_⟩⟩
      · rw [if_pos q] at hF
        rw [e13] at e15 ⊢
        rw [show r15 = h2.r 15004 r from e15, hF]
        exact nx
      · rw [if_neg q] at hF
        rw [e18]
        exact ih _ F (by rw [List.length_set]; exact lT) (by omega) hF nx
  have key := loop_uc (n := min 11 (ht + 1)) (P := fun n (_ : Unit) => Aw G mX1_middle (d + 1) 0 h (kJ (fun x h' => x = mdT_ ht tm ∧ Same noP h h' ∧ h'.z = h.z + 1 ∧ h'.s = h.s + 11) nE) 9 [vU, vR h.z, vI (nI n), vR (if n ≤ ht then c (ht - n) else 0), vU] [] (h2.wl h.z (insN (List.replicate 11 0) (fun i => tm (ht - i)) n))) (fun _ _ => True) (fun n _ hn _ ih => ?_) 0 () (Nat.zero_le _) trivial
  · rw [if_pos (Nat.zero_le _), Nat.sub_zero, show insN (List.replicate 11 0) (fun i => tm (ht - i)) 0 = h2.al h.z from a2.symm, AH.wl_self] at key
    exact key
  · have lI : (insN (List.replicate 11 0) (fun i => tm (ht - i)) n).length = 11 := by rw [insN_len, List.length_replicate]
    have fin : n = min 11 (ht + 1) → h2.kd h.z = 103 ∧ vp_in (nI n / 2) ((h2.wl h.z (insN (List.replicate 11 0) (fun i => tm (ht - i)) n)).al h.z).length ∧ (kJ (fun x h' => x = mdT_ ht tm ∧ Same noP h h' ∧ h'.z = h.z + 1 ∧ h'.s = h.s + 11) nE) (.inl (some (vJ (((h2.wl h.z (insN (List.replicate 11 0) (fun i => tm (ht - i)) n)).al h.z).getD ((nI n / 2).toNatClampNeg) 0)))) (h2.wl h.z (insN (List.replicate 11 0) (fun i => tm (ht - i)) n)) := fun en => by
      rw [rd, lI, show (2 : Int32) = nI 2 from rfl, pk_div (by omega) (by decide) (by decide), pk_cl (n / 2) rfl (by omega)]
      refine ⟨k2, pk_in (n / 2) 11 (by omega), ?_, fr _ lI⟩
      rw [en]
      rfl
    by_cases z : n ≤ ht
    · rw [if_pos z]
      have o := old (ht - n) (by omega)
      obtain ⟨p1, p2, p3, p4⟩ := P (ht - n) (by omega)
      refine sX1_middle_9 _ h.z (nI n) (c (ht - n)) ⟨fun q => absurd q (hz _ (by omega)).1, fun _ => pk_le 11 n (fun w => fin (by omega)) (fun w => ?_)⟩
      refine ins n (tm (ht - n)) (c (ht - n)) w (o.1.trans p1) ((o.2.2.2.1 _).trans (ht_ _ (by omega))) n _ _ lI (Nat.le_refl _) rfl ?_
      have nx := ih (by omega) () trivial
      have er : h2.r 15004 (c (ht - n)) = if n + 1 ≤ ht then c (ht - (n + 1)) else 0 := by
        rw [o.2.1]
        by_cases y : n + 1 ≤ ht
        · rw [if_pos y, p3 (by omega)]
          congr 1
        · rw [if_neg y, p4 (by omega)]
      rw [er]
      exact nx
    · rw [if_neg z]
      exact sX1_middle_9 _ h.z (nI n) 0 ⟨fun _ => fin (by omega), fun q => absurd rfl q⟩
end Mid

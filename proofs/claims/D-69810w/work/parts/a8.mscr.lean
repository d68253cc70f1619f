/-! the reference: where scripts, inputs and outputs stand -/
set_option maxRecDepth 100000
def inW (L : List Int32) (n : Nat) (x : P3) : Prop := x.1 + 36 ≤ n ∧ cntP L n (x.1 + 36) = some (x.2.2, x.2.1) ∧ x.2.1 + x.2.2 + 4 ≤ n
def outW (L : List Int32) (n : Nat) (x : P3) : Prop := x.1 + 8 ≤ n ∧ cntP L n (x.1 + 8) = some (x.2.2, x.2.1) ∧ x.2.1 + x.2.2 ≤ n
/-- a transaction stands in a row of bytes -/
def TxW (L : List Int32) (n : Nat) (t : TxP) : Prop := (n ≤ L.length ∧ L.length < 65536) ∧ (t.1 + 4 ≤ n ∧ 4 ≤ t.2.1 ∧ t.2.1 ≤ n) ∧
  (∀ j, j < t.2.2.1.length → inW L n (t.2.2.1.getD j p0) ∧ (j + 1 < t.2.2.1.length → (t.2.2.1.getD (j + 1) p0).1 = (t.2.2.1.getD j p0).2.1 + (t.2.2.1.getD j p0).2.2 + 4)) ∧
  ∀ j, j < t.2.2.2.length → outW L n (t.2.2.2.getD j p0) ∧ (j + 1 < t.2.2.2.length → (t.2.2.2.getD (j + 1) p0).1 = (t.2.2.2.getD j p0).2.1 + (t.2.2.2.getD j p0).2.2)
def scH (h : AH) (M : Nat) (u v : Int32) : AH := (h.pi 24041 M u).pi 24040 M v
section Scr
variable {G : Gx} {d : Nat} {h : AH} {M a n i sz b p j : Nat} {L K B : List Int32} {t : TxP}
theorem scH_sc (u v u' v' : Int32) : scH (scH h M u v) M u' v' = scH h M u' v' := by
  unfold scH
  rw [AH.pi_comm (h.pi 24041 M u) _ _ (Or.inl (by decide)), AH.pi_pi, AH.pi_pi]
theorem scH_self : scH h M (h.i 24041 M) (h.i 24040 M) = h := by
  unfold scH
  rw [AH.pi_self h rfl, AH.pi_self h rfl]
theorem MD_script_spec (hd : 2 ≤ d) (kM : h.kd M = 24) (ka : h.kd a = 101) (eL : h.ai a = L) (hn : n ≤ L.length) (hl : L.length < 65536) (hc : cntP L n i = some (sz, b)) (hb : b + sz ≤ n) : Cw G mX24_script d 0 [vR M, vR a, vI (nI i)] h (kI (fun x h' => x = nI (b + sz) ∧ h' = scH h M (nI sz) (nI b)) nE) := by
  obtain ⟨d, rfl⟩ : ∃ d', d = d' + 1 := ⟨d - 1, by omega⟩
  obtain ⟨c1, c2, c3, c4⟩ := cntP_inv hc
  have hu := ub_lt L i
  refine eX24_script h M a (nI i) (fun _ => sX24_script_0 h M a (nI i) ⟨ka, ?_⟩)
  rw [eL, pk_cl i rfl (by omega), and_ub, nI_1]
  refine ⟨pk_in i _ (by omega), fun u3 e3 => ?_⟩
  subst e3
  have fin : ∀ {h1 h2 : AH}, h1 = h.pi 24041 M (nI sz) → h2 = h1.pi 24040 M (nI b) → (h2.i 24040 M + h2.i 24041 M = nI (b + sz) ∧ h2 = scH h M (nI sz) (nI b)) := fun e1 e2 => by
    refine ⟨?_, by rw [e2, e1]; rfl⟩
    rw [e2, e1, AH.i_pi, if_pos ⟨rfl, rfl⟩, AH.i_pi, if_neg (fun q => absurd q.1 (by decide)), AH.i_pi, if_pos ⟨rfl, rfl⟩, nI_add]
  have num : ∀ k, k ≤ 8 → sz = leV L (i + 1) k → b = i + 1 + k → Cw G mX24_number d 0 [vR M, vR a, vI (nI (i + 1)), vI (nI k)] h (kJ (fun x8 h9 => ∀ h12 : AH, h12 = h9.pi 24041 M x8.toInt32 → ∀ h14 : AH, h14 = h12.pi 24040 M (nI (i + 1) + nI k) → (kI (fun x h' => x = nI (b + sz) ∧ h' = scH h M (nI sz) (nI b)) nE) (.inl (some (vI (h14.i 24040 M + h14.i 24041 M)))) h14) (fun x h_1 => (kI (fun x h' => x = nI (b + sz) ∧ h' = scH h M (nI sz) (nI b)) nE) (.inr x) h_1)) := fun k hk es eb => by
    refine (MD_number_spec (k := k) hk (by omega) ka (by rw [eL]; omega) (by rw [eL]; omega)).nJ (fun x8 h9 Q h12 e12 h14 e14 => ?_)
    obtain ⟨ex, eh⟩ := Q
    rw [ex, eh, eL, ← es, lN_i] at e12
    rw [nI_add, ← eb] at e14
    exact fin e12 e14
  refine pk_le 253 (ub L i) (fun z => ?_) (fun z => ?_)
  · rcases c4 with c4 | c4
    · exact absurd c4.1 (by omega)
    · refine pk_eq' (ub L i) 253 (fun z1 => pk_eq' (ub L i) 254 (fun z2 => ⟨fun _ => ⟨kM, ?_⟩, fun q => absurd q (by decide)⟩) (fun z2 => ⟨fun _ => ⟨kM, ?_⟩, fun q => absurd q (by decide)⟩)) (fun z1 => ⟨fun _ => ⟨kM, ?_⟩, fun q => absurd q (by decide)⟩)
      · have e8 := (cntK_5 c4.1 z1 z2).1
        rw [e8] at c4
        exact num 8 (by decide) c4.2.1 c4.2.2
      · have e4 := (cntK_4 z2).1
        rw [e4] at c4
        exact num 4 (by decide) c4.2.1 c4.2.2
      · have e2 := (cntK_3 z1).1
        rw [e2] at c4
        exact num 2 (by decide) c4.2.1 c4.2.2
  · rcases c4 with c4 | c4
    · refine ⟨fun q => absurd rfl q, fun _ => ⟨kM, fun h59 e59 h61 e61 => ?_⟩⟩
      have e0 : nI (i + 1) + 0 = nI b := by
        rw [c4.2.2]
        show nI (i + 1) + nI 0 = _
        rw [nI_add]
      rw [e0] at e61
      rw [← c4.2.1] at e59
      exact fin e59 e61
    · exact absurd c4.1 (by omega)
theorem MD_input_spec (hd : 3 ≤ d) (kM : h.kd M = 24) (P : PrS h p) (rp : h.r 26000 p = a) (ka : h.kd a = 101) (eL : h.ai a = L) (W : TxW L n t) (T : PrT h p K B L j t) (hj : j < 12) (hi : i < t.2.2.1.length) (hi2 : t.2.2.1.length < 2 ^ 20) : Cw G mX24_input d 0 [vR M, vR p, vI (nI j), vI (nI i)] h (kI (fun x h' => x = nI (t.2.2.1.getD i p0).1 ∧ ∃ u v, h' = scH h M u v) nE) := by
  obtain ⟨d, rfl⟩ : ∃ d', d = d' + 1 := ⟨d - 1, by omega⟩
  refine eX24_input h M p (nI j) (nI i) (fun _ => sX24_input_0 h M p (nI j) (nI i) ⟨P.1, fun r2 e2 => ?_⟩)
  have e2' : r2 = p + 5 := e2.trans P.2.1.2.2.2.2.1
  subst e2'
  rw [pk_cl j rfl (by omega), P.2.2.2.2.2.2.2.1, T.2.2.2.2.1 (by omega)]
  refine ⟨P.2.2.1.2.2.2.2.1, pk_in j 12 hj, fun u5 e5 => ?_⟩
  subst e5
  have key := loop_uc (n := i) (P := fun k (w : Int32 × Int32) => Aw G mX24_input (d + 1) 0 h (kI (fun x h' => x = nI (t.2.2.1.getD i p0).1 ∧ ∃ u v, h' = scH h M u v) nE) 11 [vR M, vR p, vU, vI (nI i), vI (nI (t.2.2.1.getD k p0).1), vI (nI k)] [] (scH h M w.1 w.2)) (fun _ _ => True) (fun k w hk _ ih => ?_) 0 (h.i 24041 M, h.i 24040 M) (Nat.zero_le _) trivial
  · dsimp only at key
    rw [scH_self] at key
    exact key
  · try dsimp only at ih ⊢
    refine sX24_input_11 _ M p (nI i) (nI (t.2.2.1.getD k p0).1) (nI k) (pk_le i k (fun z => ?_) (fun z => ⟨P.1, fun r3 e3 => ?_⟩))
    · obtain rfl : k = i := by omega
      exact ⟨rfl, _, _, rfl⟩
    · have e3' : r3 = a := e3.trans rp
      subst e3'
      obtain ⟨w1, w2⟩ := W.2.2.1 k (by omega)
      obtain ⟨v1, v2, v3⟩ := w1
      rw [show (36 : Int32) = nI 36 from rfl, nI_add]
      refine ⟨kM, (MD_script_spec (h := scH h M w.1 w.2) (by omega) kM ka eL W.1.1 W.1.2 v2 (by omega)).nI (fun x4 h5 Q => ?_)⟩
      obtain ⟨ex, eh⟩ := Q
      rw [ex, eh, scH_sc, show (4 : Int32) = nI 4 from rfl, nI_add, nI_1, ← w2 (by omega)]
      exact ih (by omega) (nI (t.2.2.1.getD k p0).2.2, nI (t.2.2.1.getD k p0).2.1) trivial
theorem MD_output_spec (hd : 3 ≤ d) (kM : h.kd M = 24) (P : PrS h p) (rp : h.r 26000 p = a) (ka : h.kd a = 101) (eL : h.ai a = L) (W : TxW L n t) (T : PrT h p K B L j t) (hj : j < 12) (hi : i < t.2.2.2.length) (hi2 : t.2.2.2.length < 2 ^ 20) : Cw G mX24_output d 0 [vR M, vR p, vI (nI j), vI (nI i)] h (kI (fun x h' => x = nI (t.2.2.2.getD i p0).1 ∧ ∃ u v, h' = scH h M u v) nE) := by
  obtain ⟨d, rfl⟩ : ∃ d', d = d' + 1 := ⟨d - 1, by omega⟩
  refine eX24_output h M p (nI j) (nI i) (fun _ => sX24_output_0 h M p (nI j) (nI i) ⟨P.1, fun r2 e2 => ?_⟩)
  have e2' : r2 = p + 6 := e2.trans P.2.1.2.2.2.2.2.1
  subst e2'
  rw [pk_cl j rfl (by omega), P.2.2.2.2.2.2.2.2.1, T.2.2.2.2.2.1 (by omega)]
  refine ⟨P.2.2.1.2.2.2.2.2.1, pk_in j 12 hj, fun u5 e5 => ?_⟩
  subst e5
  have key := loop_uc (n := i) (P := fun k (w : Int32 × Int32) => Aw G mX24_output (d + 1) 0 h (kI (fun x h' => x = nI (t.2.2.2.getD i p0).1 ∧ ∃ u v, h' = scH h M u v) nE) 11 [vR M, vR p, vU, vI (nI i), vI (nI (t.2.2.2.getD k p0).1), vI (nI k)] [] (scH h M w.1 w.2)) (fun _ _ => True) (fun k w hk _ ih => ?_) 0 (h.i 24041 M, h.i 24040 M) (Nat.zero_le _) trivial
  · dsimp only at key
    rw [scH_self] at key
    exact key
  · try dsimp only at ih ⊢
    refine sX24_output_11 _ M p (nI i) (nI (t.2.2.2.getD k p0).1) (nI k) (pk_le i k (fun z => ?_) (fun z => ⟨P.1, fun r3 e3 => ?_⟩))
    · obtain rfl : k = i := by omega
      exact ⟨rfl, _, _, rfl⟩
    · have e3' : r3 = a := e3.trans rp
      subst e3'
      obtain ⟨w1, w2⟩ := W.2.2.2 k (by omega)
      obtain ⟨v1, v2, v3⟩ := w1
      rw [show (8 : Int32) = nI 8 from rfl, nI_add]
      refine ⟨kM, (MD_script_spec (h := scH h M w.1 w.2) (by omega) kM ka eL W.1.1 W.1.2 v2 (by omega)).nI (fun x4 h5 Q => ?_)⟩
      obtain ⟨ex, eh⟩ := Q
      rw [ex, eh, scH_sc, nI_1, ← w2 (by omega)]
      exact ih (by omega) (nI (t.2.2.2.getD k p0).2.2, nI (t.2.2.2.getD k p0).2.1) trivial
end Scr
/-- the count of a script is laid as it was read -/
theorem cnt_raw {L : List Int32} {n a sz b : Nat} (B : isB L) (hn : n < 65536) (h : cntP L n a = some (sz, b)) (hb : b + sz ≤ n) : sub_ L a (b - a) = cntB sz := by
  have e1 : sub_ L a 1 = lay (ub L a) 1 := by
    rw [← leV_1, lay_leV B]
  unfold cntP at h
  split at h
  · cases h
  · split at h
    · rename_i c1 c2
      cases h
      unfold cntB
      rw [if_pos c2, Nat.add_sub_cancel_left]
      exact e1
    · split at h
      · cases h
      · split at h
        · cases h
        · rename_i c1 c2 c3 c4
          cases h
          have s3 : ub L a = 253 := by
            by_cases z : ub L a = 253
            · exact z
            · exfalso
              by_cases z2 : ub L a = 254
              · have := (cntK_4 z2).2
                omega
              · have := (cntK_5 (by omega) z z2).2
                omega
          rw [(cntK_3 s3).1, (cntK_3 s3).2] at *
          unfold cntB
          rw [if_neg (by omega), show a + 1 + 2 - a = 1 + 2 by omega, ← sub_app, e1, s3, lay_leV B]

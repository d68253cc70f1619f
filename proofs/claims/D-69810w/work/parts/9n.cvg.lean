/-! the curve at rest -/
set_option maxRecDepth 100000
section CvG
variable {h h1 : AH} {C p N : Nat} {Bp : Pt}
theorem BigAt.eqc {b w : Nat} (H : BigAt h b w) (e : eqAt h h1 b) (f : eqAt h h1 w) : BigAt h1 b w := ⟨e.1.trans H.1, (e.2.1 _).trans H.2.1, f.1.trans H.2.2.1, by rw [f.2.2.2.2.1]; exact H.2.2.2⟩
theorem bv_eqc {w : Nat} (f : eqAt h h1 w) : bv h1 w = bv h w := by
  unfold bv
  rw [f.2.2.2.2.1]
theorem PtB.eqc {q : Nat} (H : PtB h q) (e : ∀ y, q ≤ y → y ≤ q + 6 → eqAt h h1 y) : PtB h1 q := by
  obtain ⟨⟨a1, a2, a3, a4⟩, b1, b2, b3⟩ := H
  have e0 := e q (by omega) (by omega)
  exact ⟨⟨e0.1.trans a1, (e0.2.1 _).trans a2, (e0.2.1 _).trans a3, (e0.2.1 _).trans a4⟩, b1.eqc (e _ (by omega) (by omega)) (e _ (by omega) (by omega)), b2.eqc (e _ (by omega) (by omega)) (e _ (by omega) (by omega)), b3.eqc (e _ (by omega) (by omega)) (e _ (by omega) (by omega))⟩
theorem ptV_eqc {q : Nat} (e : ∀ y, q ≤ y → y ≤ q + 6 → eqAt h h1 y) : ptV h1 q = ptV h q := by
  unfold ptV
  rw [bv_eqc (e (q + 2) (by omega) (by omega)), bv_eqc (e (q + 4) (by omega) (by omega)), bv_eqc (e (q + 6) (by omega) (by omega))]
theorem RingAt.eqc {R m : Nat} (H : RingAt h R m) (e : ∀ y, R ≤ y → y ≤ R + 16 → eqAt h h1 y) : RingAt h1 R m := by
  obtain ⟨H1, h2, h3, h4⟩ := H
  refine ⟨?_, by rw [bv_eqc (e _ (by omega) (by omega))]; exact h2, by rw [bv_eqc (e _ (by omega) (by omega))]; exact h3, h4⟩
  clear h2 h3 h4
  obtain ⟨c1, c2, c3, c4, c5, c6, c7, c8, c9, c10, c11, c12, c13, c14, c15, c16, c17, c18, c19⟩ := H1
  have e0 := e R (by omega) (by omega)
  have e5 := e (R + 5) (by omega) (by omega)
  have e6 := e (R + 6) (by omega) (by omega)
  exact ⟨e0.1.trans c1, (e0.2.1 _).trans c2, (e0.2.1 _).trans c3, (e0.2.1 _).trans c4, (e0.2.1 _).trans c5, (e0.2.1 _).trans c6, (e0.2.1 _).trans c7, (e0.2.1 _).trans c8, (e0.2.1 _).trans c9, (e0.2.1 _).trans c10,
    c11.eqc (e _ (by omega) (by omega)) (e _ (by omega) (by omega)), c12.eqc (e _ (by omega) (by omega)) (e _ (by omega) (by omega)), ⟨e5.1.trans c13.1, by rw [e5.2.2.2.2.1]; exact c13.2⟩, ⟨e6.1.trans c14.1, by rw [e6.2.2.2.2.1]; exact c14.2⟩,
    c15.eqc (e _ (by omega) (by omega)) (e _ (by omega) (by omega)), c16.eqc (e _ (by omega) (by omega)) (e _ (by omega) (by omega)), c17.eqc (e _ (by omega) (by omega)) (e _ (by omega) (by omega)), c18.eqc (e _ (by omega) (by omega)) (e _ (by omega) (by omega)), c19.eqc (e _ (by omega) (by omega)) (e _ (by omega) (by omega))⟩
theorem CvB.eqc (H : CvB h C) (e : ∀ y, C ≤ y → y ≤ C + 91 → eqAt h h1 y) : CvB h1 C := by
  obtain ⟨⟨s1, s2, s3, s4, s5, s6, s7, s8, s9⟩, ⟨a1, a2, a3, a4, a5, a6, a7, a8, a9, a10⟩, ⟨b1, b2, b3, b4, b5, b6⟩, ⟨d1, d2, d3, d4⟩, f1, f2, f3, f4, f5⟩ := H
  have E : ∀ k, k ≤ 91 → eqAt h h1 (C + k) := fun k hk => e (C + k) (Nat.le_add_right _ _) (Nat.add_le_add_left hk C)
  have e0 : eqAt h h1 C := E 0 (by decide)
  have r := e0.2.1
  refine ⟨⟨e0.1.trans s1, (r _).trans s2, (r _).trans s3, (r _).trans s4, (r _).trans s5, (r _).trans s6, (r _).trans s7, (r _).trans s8, (E 1 (by decide)).1.trans s9⟩, ⟨(r _).trans a1, (r _).trans a2, (r _).trans a3, (r _).trans a4, (r _).trans a5, (r _).trans a6, (r _).trans a7, (r _).trans a8, (r _).trans a9, (r _).trans a10⟩, ⟨?_, ?_, ?_, ?_, ?_, ?_⟩, ⟨?_, ?_, ?_, ?_⟩, ?_, ?_, ?_, ?_, ?_⟩
  · exact b1.eqc (E 42 (by decide)) (E 43 (by decide))
  · exact b2.eqc (E 44 (by decide)) (E 45 (by decide))
  · exact b3.eqc (E 46 (by decide)) (E 47 (by decide))
  · exact b4.eqc (E 48 (by decide)) (E 49 (by decide))
  · exact b5.eqc (E 50 (by decide)) (E 51 (by decide))
  · exact b6.eqc (E 52 (by decide)) (E 53 (by decide))
  · exact d1.eqc (fun y p q => e y (Nat.le_trans (Nat.le_add_right C 35) p) (Nat.le_trans q (Nat.add_le_add_left (show 41 ≤ 91 by decide) C)))
  · exact d2.eqc (fun y p q => e y (Nat.le_trans (Nat.le_add_right C 61) p) (Nat.le_trans q (Nat.add_le_add_left (show 67 ≤ 91 by decide) C)))
  · exact d3.eqc (fun y p q => e y (Nat.le_trans (Nat.le_add_right C 68) p) (Nat.le_trans q (Nat.add_le_add_left (show 74 ≤ 91 by decide) C)))
  · exact d4.eqc (fun y p q => e y (Nat.le_trans (Nat.le_add_right C 75) p) (Nat.le_trans q (Nat.add_le_add_left (show 81 ≤ 91 by decide) C)))
  · exact f1.eqc (E 82 (by decide)) (E 83 (by decide))
  · exact f2.eqc (E 84 (by decide)) (E 85 (by decide))
  · exact f3.eqc (E 86 (by decide)) (E 87 (by decide))
  · exact f4.eqc (E 88 (by decide)) (E 89 (by decide))
  · exact f5.eqc (E 90 (by decide)) (E 91 (by decide))
/-- the curve between two calls -/
def CvG (h : AH) (C p N : Nat) (Bp : Pt) : Prop := CvB h C ∧ RingAt h (C + 1) p ∧ RingAt h (C + 18) N ∧ cvLt h C p ∧ PtLt h (C + 35) p ∧ PtLt h (C + 68) p ∧ PtLt h (C + 75) p ∧ ptV h (C + 35) = Bp ∧ 7 < p ∧ 2 < N
theorem CvG.eqc (H : CvG h C p N Bp) (e : ∀ y, C ≤ y → y ≤ C + 91 → eqAt h h1 y) : CvG h1 C p N Bp := by
  obtain ⟨g1, g2, g3, g4, g5, g6, g7, g8, g9⟩ := H
  have pt : ∀ q, C ≤ q → q + 6 ≤ C + 91 → ptV h1 q = ptV h q := fun q a b => ptV_eqc (fun y c d => e y (by omega) (by omega))
  refine ⟨g1.eqc e, g2.eqc (fun y a b => e y (by omega) (by omega)), g3.eqc (fun y a b => e y (by omega) (by omega)), ?_, g5.eqv (pt _ (by omega) (by omega)), g6.eqv (pt _ (by omega) (by omega)), g7.eqv (pt _ (by omega) (by omega)), (pt _ (by omega) (by omega)).trans g8, g9⟩
  unfold cvLt
  rw [bv_eqc (e (C + 43) (by omega) (by omega)), bv_eqc (e (C + 45) (by omega) (by omega)), bv_eqc (e (C + 47) (by omega) (by omega)), bv_eqc (e (C + 49) (by omega) (by omega)), bv_eqc (e (C + 51) (by omega) (by omega)), bv_eqc (e (C + 53) (by omega) (by omega))]
  exact g4
end CvG

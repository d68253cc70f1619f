/-! lists of the JDK: clear -/
set_option maxRecDepth 100000
section Clear
variable {G : Gx} {d : Nat} {h : AH} {a e m : Nat}
theorem AL_clear_spec (hd : 1 ≤ d) (k1 : h.kd a = 29) (k2 : h.i 29002 a = nI m) (k3 : h.r 29001 a = e) (k4 : 0 < m → h.kd e = 113) (k5 : m ≤ (h.ar e).length) (k6 : (h.ar e).length < 2 ^ 24) :
    Cw G mJ13_clear d 0 [vR a] h (kV (fun h' => ∃ n R, R.length = (h.ar e).length ∧ h' = ((h.pi 29000 a n).pi 29002 a 0).wr e R) nE) := by
  obtain ⟨d, rfl⟩ : ∃ d', d = d' + 1 := ⟨d - 1, by omega⟩
  refine eJ13_clear h a (fun _ => sJ13_clear_0 h a ⟨k1, fun h2 e2 r4 e4 h5 e5 => ?_⟩)
  have i2 : h2.i 29002 a = nI m := by
    rw [e2, AH.i_pi, if_neg (fun q => absurd q.1 (by decide))]
    exact k2
  have er : r4 = e := by
    rw [e4, e2]
    exact k3
  rw [er, i2, e5, e2]
  have key := loop_uc (n := m) (P := fun k (R : List Nat) => Aw G mJ13_clear (d + 1) 0 h (kV (fun h' => ∃ n R, R.length = (h.ar e).length ∧ h' = ((h.pi 29000 a n).pi 29002 a 0).wr e R) nE) 27 [vU, vR e, vI (nI m), vI (nI k)] [] (((h.pi 29000 a (h.i 29000 a + 1)).pi 29002 a 0).wr e R)) (fun _ R => R.length = (h.ar e).length) (fun k R hk hR ih => ?_) 0 (h.ar e) (Nat.zero_le _) rfl
  · have : (((h.pi 29000 a (h.i 29000 a + 1)).pi 29002 a 0).wr e (h.ar e)) = ((h.pi 29000 a (h.i 29000 a + 1)).pi 29002 a 0) := AH.wr_self ((h.pi 29000 a (h.i 29000 a + 1)).pi 29002 a 0) e
    rw [this] at key
    exact key
  · refine sJ13_clear_27 _ e (nI m) (nI k) (pk_le m k (fun _ => ⟨_, R, hR, rfl⟩) (fun z => ⟨k4 (by omega), ?_⟩))
    rw [show (((h.pi 29000 a (h.i 29000 a + 1)).pi 29002 a 0).wr e R).ar e = R from if_pos rfl, AH.wr_wr, pk_cl k rfl (by omega), nI_1]
    refine ⟨pk_in k R.length (by omega), fun h4 e4 => ?_⟩
    rw [e4]
    exact ih z _ (by rw [List.length_set]; exact hR)
end Clear

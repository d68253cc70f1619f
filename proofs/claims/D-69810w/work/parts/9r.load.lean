/-! the reference: the code is loaded -/
set_option maxRecDepth 100000
section Load
variable {G : Gx} {d : Nat} {h : AH} {M cu : Nat}
theorem MD_load_spec {a off n : Nat} (hd : 1 ≤ d) (kM : h.kd M = 24) (rc : h.r 24087 M = cu) (kc : h.kd cu = 101) (lc : (h.ai cu).length = 1700) (ka : h.kd a = 101) (na : a ≠ cu) (hl : off + n ≤ (h.ai a).length) (hl2 : (h.ai a).length < 2 ^ 31) (hn : n ≤ 1700) : Cw G mX24_load d 0 [vR M, vR a, vI (nI off), vI (nI n)] h (kV (fun h' => h' = (h.wi cu (putB (h.ai cu) 0 n (fun i => (h.ai a).getD (off + i) 0))).pi 24089 M (nI n)) nE) := by
  obtain ⟨d, rfl⟩ : ∃ d', d = d' + 1 := ⟨d - 1, by omega⟩
  refine eX24_load h M a (nI off) (nI n) (fun w => sX24_load_0 _ M a (nI off) (nI n) ?_)
  have hB : isB (h.ai a) := w.isB ka
  have key := loop_uc (n := n) (P := fun j (T : List Int32) => Aw G mX24_load (d + 1) 0 h (kV (fun h' => h' = (h.wi cu (putB (h.ai cu) 0 n (fun i => (h.ai a).getD (off + i) 0))).pi 24089 M (nI n)) nE) 3 [vR M, vR a, vI (nI off), vI (nI n), vI (nI j)] [] (h.wi cu T))
    (fun j T => T = putB (h.ai cu) 0 j (fun i => (h.ai a).getD (off + i) 0)) (fun j T hj hI ih => ?_) 0 (h.ai cu) (Nat.zero_le _) (putB_0 _ _ _).symm
  · rw [AH.wi_self] at key
    exact key
  · subst hI
    refine sX24_load_3 _ M a (nI off) (nI n) (nI j) (pk_le n j (fun c => ⟨kM, fun h3 e3 => ?_⟩) (fun c => ⟨kM, fun r5 e5 => ?_⟩))
    · obtain rfl : j = n := by omega
      exact e3
    · have e5' : r5 = cu := e5.trans rc
      subst e5'
      rw [AH.ai_wiN na, AH.ai_wiS, putB_len, lc, AH.wi_wi, nI_add, pk_cl (off + j) rfl (by omega), pk_cl j rfl (by omega), hB, nI_1]
      refine ⟨ka, pk_in (off + j) _ (by omega), kc, pk_in j 1700 (by omega), fun h10 e10 => ?_⟩
      rw [e10]
      refine ih c _ ?_
      have := putB_succ (L := h.ai r5) (off := 0) (n := j) (g := fun i => (h.ai a).getD (off + i) 0) (x := (h.ai a).getD (off + j) 0) (by omega) rfl
      rw [Nat.zero_add] at this
      exact this
end Load

/-! one number of a signature, on both sides -/
set_option maxRecDepth 100000
theorem beV_lead (L : List Int32) (off n : Nat) : beV L off (n + 1) = ub L off * 256 ^ n + beV L (off + 1) n := by
  unfold beV
  rw [dv8, Nat.add_comm]
  congr 1
  · rw [show off + (n + 1 - 1 - n) = off by omega]
  · exact dv8_congr (fun i hi => by rw [show off + (n + 1 - 1 - i) = off + 1 + (n - 1 - i) by omega])
theorem beV_lt (L : List Int32) (off n : Nat) : beV L off n < 256 ^ n := dv8_lt (fun _ _ => ub_lt _ _)
theorem byte_0 {x : Int32} (h : u32 x % 256 = 0) (hb : i2b x = x) : x = 0 := by
  have h1 := byte_bI (x := x) hb
  rw [h] at h1
  rw [← h1]
  rfl
theorem beV_big {L : List Int32} {off n : Nat} (hn : 32 ≤ n) (h : ub L off ≠ 0) : ¬ beV L off (n + 1) < 4294967296 ^ 8 := by
  rw [beV_lead]
  have h1 : 256 ^ 32 ≤ 256 ^ n := Nat.pow_le_pow_right (by omega) hn
  have h2 : 1 * 256 ^ n ≤ ub L off * 256 ^ n := Nat.mul_le_mul_right _ (by omega)
  have h3 : (4294967296 : Nat) ^ 8 = 256 ^ 32 := by rw [p256_W]
  rw [h3]
  generalize 256 ^ n = z at *
  generalize ub L off * z = y at *
  omega
section Part
variable {G : Gx} {d : Nat} {h : AH}
theorem Cv_part_spec {C t tw a at_ n : Nat} (hd : 3 ≤ d) (ht : BigAt h t tw) (ka : h.kd a = 101) (la : at_ + 2 + n ≤ (h.ai a).length) (la2 : (h.ai a).length < 2 ^ 31) (hb : (h.ai a).getD (at_ + 1) 0 = nI n) (hn : n < 128) :
    Cw G mX3_part d 0 [vR C, vR t, vR a, vI (nI at_)] h (kV (fun h' => h' = h.wi tw (lb (if beV (h.ai a) (at_ + 2) n < 4294967296 ^ 8 then beV (h.ai a) (at_ + 2) n else 0))) nE) := by
  obtain ⟨d, rfl⟩ : ∃ d', d = d' + 1 := ⟨d - 1, by omega⟩
  have hd1 : 1 ≤ d := by omega
  have hd2 : 2 ≤ d := by omega
  refine eX3_part h C t a (nI at_) (fun w => sX3_part_0 h C t a (nI at_) ⟨ka, ?_⟩)
  rw [nI_1, pk_cl (at_ + 1) rfl (by omega), hb, show (2 : Int32) = nI 2 from rfl, nI_add]
  refine ⟨pk_in (at_ + 1) _ (by omega), fun u3 e3 => ?_⟩
  rw [e3]
  generalize hΦ : kV (fun h' => h' = h.wi tw (lb (if beV (h.ai a) (at_ + 2) n < 4294967296 ^ 8 then beV (h.ai a) (at_ + 2) n else 0))) nE = Φ
  have key : ∀ m (fr : Nat), (fr + m = at_ + 2 + n ∧ beV (h.ai a) fr m = beV (h.ai a) (at_ + 2) n ∧ m < 128) → Aw G mX3_part (d + 1) 0 h Φ 12 [vU, vR t, vR a, vU, vI (nI m), vI (nI fr)] [] h := by
    refine loop_dn (P := fun m fr => Aw G mX3_part (d + 1) 0 h Φ 12 [vU, vR t, vR a, vU, vI (nI m), vI (nI fr)] [] h) _ (fun m fr hI ih => ?_) (fun fr hI => ?_)
    · obtain ⟨i1, i2, i3⟩ := hI
      refine sX3_part_12 _ t a (nI (m + 1)) (nI fr) (pk_le (m + 1) 32 (fun h32 => ⟨ht.1, ?_⟩) (fun h32 => ⟨ka, ?_⟩))
      · refine (Big_read_spec hd2 ht ka h32 (by omega) la2).nR (fun x h3 Q => ?_)
        obtain ⟨_, rfl⟩ := Q
        rw [← hΦ]
        show _ = _
        have hl := beV_lt (h.ai a) fr (m + 1)
        have h1 : 256 ^ (m + 1) ≤ 256 ^ 32 := Nat.pow_le_pow_right (by omega) h32
        have h3 : (4294967296 : Nat) ^ 8 = 256 ^ 32 := by rw [p256_W]
        rw [← i2, if_pos (by rw [h3]; exact Nat.lt_of_lt_of_le hl h1)]
      · rw [pk_cl fr rfl (by omega)]
        refine ⟨pk_in fr _ (by omega), fun c => ?_, fun c => ⟨ht.1, (Big_zero_spec hd1 ht).nR (fun x h9 Q => ?_)⟩⟩
        · rw [pk_m1, nI_1]
          refine ih (fr + 1) ⟨by omega, ?_, by omega⟩
          rw [← i2, beV_lead, ub, c, show u32 (0 : Int32) % 256 = 0 from rfl, Nat.zero_mul, Nat.zero_add]
        · obtain ⟨_, rfl⟩ := Q
          rw [← hΦ]
          show _ = _
          rw [← i2, if_neg (beV_big (by omega) (fun e => c (byte_0 e (w.byte ka fr))))]
    · obtain ⟨i1, i2, i3⟩ := hI
      refine sX3_part_12 _ t a (nI 0) (nI fr) (pk_le 0 32 (fun h32 => ⟨ht.1, ?_⟩) (fun h32 => absurd h32 (by decide)))
      refine (Big_read_spec (n := 0) hd2 ht ka (by omega) (by omega) la2).nR (fun x h3 Q => ?_)
      obtain ⟨_, rfl⟩ := Q
      rw [← hΦ]
      show _ = _
      rw [← i2, if_pos (by show (0 : Nat) < _; decide)]
  exact key n (at_ + 2) ⟨rfl, rfl, hn⟩
end Part

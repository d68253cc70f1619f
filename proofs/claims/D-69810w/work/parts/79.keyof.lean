/-! the key of a number, by the component -/
set_option maxRecDepth 100000
/-- the bytes of a key: w 0: of 33 bytes; else of 65 -/
def keyB (w : Int32) (X Y : Nat) (i : Nat) : Int32 := if i = 0 then (if w = 0 then bI (2 + Y % 2) else bI 4) else if i < 33 then bI (X / 256 ^ (31 - (i - 1))) else bI (Y / 256 ^ (31 - (i - 33)))
theorem key33 {L : List Int32} {at_ X Y : Nat} {w x0 : Int32} (h : at_ + 33 ≤ L.length) (hx : x0 = if w = 0 then bI (2 + Y % 2) else bI 4) : putB (L.set at_ x0) (at_ + 1) 32 (fun i => bI (X / 256 ^ (31 - i))) = putB L at_ 33 (keyB w X Y) := by
  refine ext_getD (z := 0) (by rw [putB_len, putB_len, List.length_set]) (fun i hi => ?_)
  rw [putB_len, List.length_set] at hi
  rw [putB_getD _ _ _ _ (by rw [List.length_set]; exact hi), putB_getD _ _ _ _ hi]
  unfold keyB
  by_cases c1 : at_ + 1 ≤ i ∧ i < at_ + 1 + 32
  · rw [if_pos c1, if_pos (by omega), if_neg (by omega), if_pos (by omega), show i - at_ - 1 = i - (at_ + 1) by omega]
  · rw [if_neg c1]
    by_cases c2 : i = at_
    · rw [c2, getD_set_eq (by omega), if_pos (by omega), if_pos (by omega), hx]
    · rw [getD_set_ne c2, if_neg (by omega)]
theorem key65 {L : List Int32} {at_ X Y : Nat} {w : Int32} (h : at_ + 65 ≤ L.length) : putB (putB L at_ 33 (keyB w X Y)) (at_ + 33) 32 (fun i => bI (Y / 256 ^ (31 - i))) = putB L at_ 65 (keyB w X Y) := by
  refine ext_getD (z := 0) (by rw [putB_len, putB_len, putB_len]) (fun i hi => ?_)
  rw [putB_len, putB_len] at hi
  rw [putB_getD _ _ _ _ (by rw [putB_len]; exact hi), putB_getD _ _ _ _ hi, putB_getD _ _ _ _ hi]
  by_cases c1 : at_ + 33 ≤ i ∧ i < at_ + 33 + 32
  · rw [if_pos c1, if_pos (show at_ ≤ i ∧ i < at_ + 65 by omega)]
    unfold keyB
    rw [if_neg (by omega), if_neg (by omega), show i - at_ - 33 = i - (at_ + 33) by omega]
  · rw [if_neg c1]
    by_cases c2 : at_ ≤ i ∧ i < at_ + 33
    · rw [if_pos c2, if_pos (by omega)]
    · rw [if_neg c2, if_neg (by omega)]
section KeyOf
variable {G : Gx} {d : Nat} {h : AH} {C p : Nat}
set_option maxHeartbeats 4000000 in
theorem Cv_keyOf_spec {u uw t at_ : Nat} {w : Int32} (hd : 6 ≤ d) (H : CvB h C) (hR : RingAt h (C + 1) p) (hp : 2 < p) (hc : cvLt h C p) (lq : PtLt h (C + 68) p) (lo : PtLt h (C + 35) p) (hu : BigAt h u uw) (hu2 : ¬ cvP C (C + 68) uw) (kt : h.kd t = 101) (lt : at_ + (if w = 0 then 33 else 65) ≤ (h.ai t).length) (lt2 : (h.ai t).length < 2 ^ 31) (pt : ¬ cvP C (C + 68) t) :
    Cw G mX3_keyOf d 0 [vR C, vR u, vI w, vR t, vI (nI at_)] h (kI (fun x h' => x = (if w = 0 then 33 else 65) ∧ Mod (fun x => cvP C (C + 68) x ∨ x = t) h h' ∧ RingAt h' (C + 1) p ∧ cvLt h' C p ∧ PtLt h' (C + 68) p ∧
      h'.ai t = putB (h.ai t) at_ (if w = 0 then 33 else 65) (keyB w (plF p (mulN p (ptV h (C + 35)) (bv h uw) 256)).1 (plF p (mulN p (ptV h (C + 35)) (bv h uw) 256)).2)) nE) := by
  obtain ⟨d, rfl⟩ : ∃ d', d = d' + 1 := ⟨d - 1, by omega⟩
  have hd1 : 1 ≤ d := by omega
  have hd5 : 5 ≤ d := by omega
  have n1 : C + 53 < C + 68 := by omega
  have n2 : C + 53 < C + 35 ∨ (C + 34 < C + 35 ∧ C + 35 + 6 < C + 42) := by omega
  have n3 : C + 68 + 6 < C + 35 ∨ C + 35 + 6 < C + 68 := by omega
  have o2 : ¬ cvP C (C + 68) (C + 35 + 2) := by unfold cvP; omega
  have o4 : ¬ cvP C (C + 68) (C + 35 + 4) := by unfold cvP; omega
  have o6 : ¬ cvP C (C + 68) (C + 35 + 6) := by unfold cvP; omega
  have y3 : C + 1 + 2 ≠ t → ¬ (C + 1 + 2 = t) := fun e => e
  have hq := H.2.2.2.1.2.2.1
  have ho := H.2.2.2.1.1
  have hlen : at_ + 33 ≤ (h.ai t).length := by split at lt <;> omega
  refine eX3_keyOf h C u w t (nI at_) (fun _ => sX3_keyOf_0 h C u w t (nI at_) ⟨H.1.1, fun r2 e2 r3 e3 => ?_⟩)
  rw [e2.trans H.2.1.2.2.2.1, e3.trans H.2.1.2.1]
  refine (Cv_times_spec hd5 H hR hc hq ho lq lo n1 n2 n3 hu hu2).nV (fun h5 Q => ?_)
  obtain ⟨⟨M5, R5, c5, q5⟩, e5⟩ := Q
  have lo5 : PtLt h5 (C + 35) p := by unfold PtLt; rw [M5.bv o2, M5.bv o4, M5.bv o6]; exact lo
  refine (Cv_plain_spec hd5 (H.mod M5) R5 c5 (hq.mod M5) (ho.mod M5) q5 lo5 n1 n2 n3 hp).nV (fun h10 Q => ?_)
  obtain ⟨⟨M10, R10, c10, q10⟩, e10⟩ := Q
  have M' := M5.trans M10
  rw [← pl_nrm hp (ptV h5 (C + 68)), e5] at e10
  generalize hXY : plF p (mulN p (ptV h (C + 35)) (bv h uw) 256) = XY at *
  have eX : bv h10 (C + 68 + 2) = XY.1 := congrArg (fun P : Pt => P.1) e10
  have eY : bv h10 (C + 68 + 4) = XY.2 := congrArg (fun P : Pt => P.2.1) e10
  have t10 : h10.ai t = h.ai t := M'.ai pt
  have kt10 : h10.kd t = 101 := by rw [M'.kd]; exact kt
  have hq10 := hq.mod M'
  obtain ⟨⟨kq, z1, z2, z3⟩, bx, by_, bz⟩ := hq10
  have nxt : C + 68 + 2 ≠ t := fun e => pt (by rw [← e]; unfold cvP; omega)
  have nyt : C + 68 + 4 ≠ t := fun e => pt (by rw [← e]; unfold cvP; omega)
  have fin : ∀ L, L.length = (h.ai t).length → Mod (fun x => cvP C (C + 68) x ∨ x = t) h (h10.wi t L) ∧ RingAt (h10.wi t L) (C + 1) p ∧ cvLt (h10.wi t L) C p ∧ PtLt (h10.wi t L) (C + 68) p := by
    intro L hL
    have Mt : Mod (fun x => x = t) h10 (h10.wi t L) := Mod.wi (by rw [hL, t10]) rfl
    have ne : ∀ x, h10.kd x = 100 → ¬ (x = t) := fun x hx e => by rw [e, kt10] at hx; omega
    have HB := H.mod M'
    refine ⟨(M'.mono (fun x hx => Or.inl hx)).trans (Mt.mono (fun x hx => Or.inr hx)), R10.mod Mt (ne _ R10.1.2.2.2.2.2.2.2.2.2.2.1.2.2.1) (ne _ R10.1.2.2.2.2.2.2.2.2.2.2.2.1.2.2.1), ?_, ?_⟩
    · unfold cvLt
      rw [Mt.bv (ne _ HB.2.2.1.1.2.2.1), Mt.bv (ne _ HB.2.2.1.2.1.2.2.1), Mt.bv (ne _ HB.2.2.1.2.2.1.2.2.1), Mt.bv (ne _ HB.2.2.1.2.2.2.1.2.2.1), Mt.bv (ne _ HB.2.2.1.2.2.2.2.1.2.2.1), Mt.bv (ne _ HB.2.2.1.2.2.2.2.2.2.2.1)]
      exact c10
    · unfold PtLt
      rw [Mt.bv (ne _ bx.2.2.1), Mt.bv (ne _ by_.2.2.1), Mt.bv (ne _ bz.2.2.1)]
      exact q10
  refine ⟨fun w0 => ⟨kq, fun r15 e15 => ?_⟩, fun w0 => ⟨kt10, ?_⟩⟩
  · rw [e15.trans z2]
    refine ⟨by_.1, (Big_bit_spec (k := 0) (by decide) hd1 by_).nI (fun x16 h17 Q => ?_)⟩
    obtain ⟨rfl, rfl⟩ := Q
    rw [t10, pk_cl at_ rfl (by omega)]
    refine ⟨kt10, pk_in at_ _ (by omega), fun h21 e21 r28 e28 => ?_⟩
    subst e21
    rw [e28.trans z1, nI_1]
    have Mt : Mod (fun x => x = t) h17 (h17.wi t ((h.ai t).set at_ (i2b (i2b (2 + nI (bv h17 (C + 68 + 4) / 2 ^ 0 % 2)))))) := Mod.wi (by rw [List.length_set, t10]) rfl
    refine ⟨bx.1, (Big_write_spec (off := at_ + 1) hd1 (bx.mod Mt) kt10 (by rw [AH.ai_wiS, List.length_set]; omega) (by rw [AH.ai_wiS, List.length_set]; exact lt2)).nV (fun h30 Q => ?_)⟩
    subst Q
    rw [AH.wi_wi, AH.ai_wiS, bv_wiN nxt, eX, key33 (w := w) (Y := XY.2) hlen (by
      rw [if_pos w0, eY, Nat.pow_zero, Nat.div_one, i2b_i2b, show (2 : Int32) = nI 2 from rfl, nI_add]
      rfl)]
    refine ⟨fun c => absurd w0 c, fun _ => ?_⟩
    have ff := fin (putB (h.ai t) at_ 33 (keyB w XY.1 XY.2)) (putB_len _ _ _ _)
    rw [if_pos w0, if_pos w0]
    exact ⟨rfl, ff.1, ff.2.1, ff.2.2.1, ff.2.2.2, AH.ai_wiS _ _ _⟩
  · rw [if_neg w0] at lt
    rw [t10, pk_cl at_ rfl (by omega)]
    refine ⟨pk_in at_ _ (by omega), fun h47 e47 => ⟨?_, fun r53 e53 => ?_⟩⟩
    · rw [e47]; exact kq
    subst e47
    rw [e53.trans z1, nI_1]
    have Mt : Mod (fun x => x = t) h10 (h10.wi t ((h.ai t).set at_ (i2b (i2b 4)))) := Mod.wi (by rw [List.length_set, t10]) rfl
    refine ⟨bx.1, (Big_write_spec (off := at_ + 1) hd1 (bx.mod Mt) kt10 (by rw [AH.ai_wiS, List.length_set]; omega) (by rw [AH.ai_wiS, List.length_set]; exact lt2)).nV (fun h55 Q => ?_)⟩
    subst Q
    rw [AH.wi_wi, AH.ai_wiS, bv_wiN nxt, eX, key33 (w := w) (Y := XY.2) hlen (by rw [if_neg w0, i2b_i2b]; rfl)]
    refine ⟨fun _ r61 e61 => ?_, fun c => absurd c w0⟩
    rw [e61.trans z2, show (33 : Int32) = nI 33 from rfl, nI_add]
    have Mt2 : Mod (fun x => x = t) h10 (h10.wi t (putB (h.ai t) at_ 33 (keyB w XY.1 XY.2))) := Mod.wi (by rw [putB_len, t10]) rfl
    refine ⟨by_.1, (Big_write_spec (off := at_ + 33) hd1 (by_.mod Mt2) kt10 (by rw [AH.ai_wiS, putB_len]; omega) (by rw [AH.ai_wiS, putB_len]; exact lt2)).nV (fun h63 Q => ?_)⟩
    subst Q
    rw [AH.wi_wi, AH.ai_wiS, bv_wiN nyt, eY, key65 lt]
    have ff := fin (putB (h.ai t) at_ 65 (keyB w XY.1 XY.2)) (putB_len _ _ _ _)
    rw [if_neg w0, if_neg w0]
    exact ⟨rfl, ff.1, ff.2.1, ff.2.2.1, ff.2.2.2, AH.ai_wiS _ _ _⟩
end KeyOf

/-! the component's table of coins: put -/
set_option maxRecDepth 100000
theorem neg_q : ∀ q, q < 1024 → (-1 : Int32) - (-1 - nI q) = nI q := by decide +kernel
theorem AH.pl_pl (h : AH) (k a : Nat) (u v : Int64) : (h.pl k a u).pl k a v = h.pl k a v := by
  unfold AH.pl
  congr 1
  funext q x
  show (if q = k ∧ x = a then v else if q = k ∧ x = a then u else h.l q x) = if q = k ∧ x = a then v else h.l q x
  by_cases c : q = k ∧ x = a
  · rw [if_pos c, if_pos c]
  · rw [if_neg c, if_neg c, if_neg c]
section Put
variable {G : Gx} {d : Nat} {h h' : AH} {Co c : Nat}
/-- a coin has been put -/
def PutP (h h' : AH) (Co c old : Nat) : Prop := CoinsAt h' Co ∧ Same (fun y => y = Co ∨ y = Co + 1) h h' ∧ (h'.z = h.z ∧ h'.s = h.s) ∧ (∀ k x, ofK h' Co k x ↔ if k = kyC h c then x = c else ofK h Co k x) ∧ cz (h'.ar (Co + 1)) + (if old = 0 then 1 else 0) = cz (h.ar (Co + 1))
theorem put_end {q old : Nat} {n : Int32} {w : Int64} (C : CoinsAt h Co) (hz0 : Co + 1 < h.z) (kc : CnOk h c) (c0 : c ≠ 0) (room : 1 < cz (h.ar (Co + 1))) (hq : q < 1024) (eo : old = tbT h Co q)
    (hk : (tbT h Co q = 0 ∧ (∀ p, p < 1024 → tbT h Co p ≠ 0 → kyC h (tbT h Co p) ≠ kyC h c) ∧ ∃ i, i < 1024 ∧ q = (sfC (kyC h c) + i) % 1024 ∧ ∀ j, j < i → tbT h Co ((sfC (kyC h c) + j) % 1024) ≠ 0) ∨ (tbT h Co q ≠ 0 ∧ kyC h (tbT h Co q) = kyC h c))
    (hn : n = if old = 0 then h.i 9001 Co + 1 else h.i 9001 Co) (hw : w = h.l 9002 Co + vlC h c - vlC h old) (e' : h' = tbH h Co ((h.ar (Co + 1)).set q c) n w) : PutP h h' Co c old := by
  have C' := C
  obtain ⟨⟨⟨t1, t2, t3, t4⟩, ok, I1, hz⟩, cn, vl⟩ := C
  have g := row_set (L := h.ar (Co + 1)) (c := c) t4 hq
  have lR : ((h.ar (Co + 1)).set q c).length = 1024 := by rw [List.length_set]; exact t4
  have czs := cz_set (l := h.ar (Co + 1)) (i := q) (x := c) (by rw [t4]; exact hq) c0
  have cl := cz_le (h.ar (Co + 1))
  rw [t4] at cl
  have eq_ : (h.ar (Co + 1)).getD q 0 = old := eo.symm
  rw [eq_] at czs
  have okR : ∀ p, p < 1024 → ((h.ar (Co + 1)).set q c).getD p 0 ≠ 0 → CnOk h (((h.ar (Co + 1)).set q c).getD p 0) := fun p hp h0 => by
    rw [g p hp] at h0 ⊢
    by_cases z : p = q
    · rw [if_pos z]; exact kc
    · rw [if_neg z] at h0 ⊢
      exact ok p hp h0
  have IR : TbI (kyC h) sfC (fun p => ((h.ar (Co + 1)).set q c).getD p 0) := by
    rcases hk with ⟨h0, hn, i, hi, ei, hb⟩ | ⟨h0, hk⟩
    · exact tb_put I1 sfC_lt c0 hi hb hn (fun p hp => by rw [← ei]; exact g p hp)
    · exact tb_same I1 c0 hq h0 hk g
  have hzR : 0 < cz ((h.ar (Co + 1)).set q c) := by
    split at czs <;> omega
  have hn' : n = nI (1024 - cz ((h.ar (Co + 1)).set q c)) := by
    rw [hn, cn]
    by_cases z : old = 0
    · rw [if_pos z] at czs ⊢
      rw [nI_1]
      congr 1
      omega
    · rw [if_neg z] at czs ⊢
      congr 1
      omega
  have hw' : w = svL (vlC h) ((h.ar (Co + 1)).set q c) := by
    rw [hw, vl, svL_set _ _ (by rw [t4]; exact hq), eq_]
  obtain ⟨u1, u2, u3⟩ := CoinsAt.upd C' hz0 lR okR IR hzR hn' hw'
  rw [← e'] at u1 u2 u3
  have ar' : h'.ar (Co + 1) = (h.ar (Co + 1)).set q c := by rw [e']; exact tb_ar
  refine ⟨u1, u2, ⟨by rw [e']; rfl, by rw [e']; rfl⟩, ofK_set lR hq c0 I1 t4 rfl ?_ (fun p => by unfold tbT; rw [ar']) (fun p hp h0 => (u3 _ (okR p hp h0)).2.1), by rw [ar']; exact czs⟩
  rcases hk with ⟨h0, hn, _⟩ | hk
  · exact Or.inl ⟨h0, hn⟩
  · exact Or.inr hk
theorem ky_id (kc : CnOk h c) : sub_ (h.ai (h.r 18002 (h.r 23001 c))) 0 32 = h.ai (h.r 18002 (h.r 23001 c)) := by
  have := subF (h.ai (h.r 18002 (h.r 23001 c)))
  rw [kc.2.2.1.2] at this
  exact this
theorem X9_put_spec (hd : 4 ≤ d) (C : CoinsAt h Co) (hz0 : Co + 1 < h.z) (kc : CnOk h c) (c0 : c ≠ 0) (room : 1 < cz (h.ar (Co + 1))) : Cw G mX9_put d 0 [vR Co, vR c] h (kR (fun x h' => ofK h Co (kyC h c) x ∧ PutP h h' Co c x) nE) := by
  obtain ⟨d, rfl⟩ : ∃ d', d = d' + 1 := ⟨d - 1, by omega⟩
  have C' := C
  obtain ⟨⟨⟨t1, t2, t3, t4⟩, ok, I1, hz⟩, cn, vl⟩ := C
  have hd1 : 1 ≤ d := by omega
  have ev : vlC h c = h.l 20000 (ouC h c) := if_neg c0
  refine eX9_put h Co c (fun _ => sX9_put_0 h Co c ⟨kc.1, fun r2 e2 => ?_⟩)
  rw [e2]
  refine ⟨kc.2.1, fun r4 e4 => ⟨t1, ?_⟩⟩
  rw [e4]
  refine (X9_find_spec (off := 0) (v := h.i 23002 c) (by omega) C'.1 kc.2.2.1.1 (by rw [kc.2.2.1.2]; decide) (by rw [kc.2.2.1.2]; decide) (ky_id kc)).nI (fun x5 h6 Q => ?_)
  obtain ⟨e6, Q⟩ := Q
  rw [e6]
  refine (X23_output_spec hd1 kc).nR (fun x9 h10 O9 => ?_)
  obtain ⟨e9, k9, e10⟩ := O9
  rw [e10, e9]
  refine ⟨k9, fun h14 e14 => ?_⟩
  have r14 : h14.r 9000 Co = Co + 1 := by rw [e14]; exact t2
  have a14 : h14.ar = h.ar := by rw [e14]; rfl
  have k14 : h14.kd = h.kd := by rw [e14]; rfl
  have l14 : h14.l 9002 Co = h.l 9002 Co + vlC h c := by rw [e14, AH.l_pl, if_pos ⟨rfl, rfl⟩, ev]
  rcases Q with ⟨p, hp, n0, ek, ex⟩ | ⟨hn, i, hi, h0, hb, ex⟩
  · have kp := ok p hp n0
    rw [ex]
    refine pk_lt p 0 (fun q => absurd q (Nat.not_lt_zero _)) (fun _ r25 e25 => ?_)
    rw [show r25 = Co + 1 from e25.trans r14, k14, a14, t4, pk_cl p rfl (by omega)]
    refine ⟨t3, pk_in p 1024 hp, fun r28 e28 => ?_⟩
    have er : r28 = tbT h Co p := e28
    rw [er]
    have kp14 : CnOk h14 (tbT h Co p) := by rw [e14]; exact kp
    have o14 : ouC h14 (tbT h Co p) = ouC h (tbT h Co p) := by rw [e14]; rfl
    refine ⟨kp.1, (X23_output_spec hd1 kp14).nR (fun x29 h30 O29 => ?_)⟩
    obtain ⟨e29, k29, e30⟩ := O29
    rw [e30, e29, o14]
    rw [o14] at k29
    refine ⟨k29, fun h34 e34 => ?_⟩
    have a34 : h34.ar = h.ar := by rw [e34]; exact a14
    have k34 : h34.kd = h.kd := by rw [e34]; exact k14
    rw [a34, k34, t4]
    refine ⟨pk_in p 1024 hp, Or.inr kc.1, fun h43 e43 => ⟨Or.inr ⟨n0, p, hp, rfl, ek⟩, ?_⟩⟩
    have lo : h14.l 20000 (ouC h (tbT h Co p)) = vlC h (tbT h Co p) := by
      rw [e14, AH.l_pl, if_neg (fun q => absurd q.1 (by decide))]
      exact (if_neg n0).symm
    refine put_end (q := p) (n := h.i 9001 Co) (w := h.l 9002 Co + vlC h c - vlC h (tbT h Co p)) C' hz0 kc c0 room hp rfl (Or.inr ⟨n0, ek⟩) (by rw [if_neg n0]) rfl ?_
    rw [e43, e34, l14, lo, e14, AH.pl_pl]
    unfold tbH
    rw [show ((h.wr (Co + 1) ((h.ar (Co + 1)).set p c)).pi 9001 Co (h.i 9001 Co)) = h.wr (Co + 1) ((h.ar (Co + 1)).set p c) from AH.pi_self _ rfl]
    rfl
  · have hq : (sfC (kyC h c) + i) % 1024 < 1024 := Nat.mod_lt _ (by decide)
    have hq' : (sfC (h.ai (h.r 18002 (h.r 23001 c)), h.i 23002 c) + i) % 1024 = (sfC (kyC h c) + i) % 1024 := rfl
    rw [ex, hq', neg_q _ hq]
    refine ⟨fun _ r17 e17 => ?_, fun q => absurd (Int32.not_le.mp (neg_p _ hq)) q⟩
    rw [show r17 = Co + 1 from e17.trans r14, k14, a14, t4, pk_cl ((sfC (kyC h c) + i) % 1024) rfl (by omega)]
    refine ⟨t3, pk_in ((sfC (kyC h c) + i) % 1024) 1024 hq, Or.inr kc.1, fun h21 e21 h23 e23 => ⟨Or.inl ⟨rfl, hn⟩, ?_⟩⟩
    have i21 : h21.i 9001 Co = h.i 9001 Co := by rw [e21, e14]; rfl
    refine put_end (q := (sfC (kyC h c) + i) % 1024) (n := h.i 9001 Co + 1) (w := h.l 9002 Co + vlC h c - vlC h 0) C' hz0 kc c0 room hq h0.symm (Or.inl ⟨h0, hn, i, hi, rfl, hb⟩) (by rw [if_pos rfl]) rfl ?_
    rw [e23, i21, e21, e14, show vlC h 0 = 0 from if_pos rfl, Int64.sub_zero, ev]
    rfl
end Put

/-! the digest that is signed, by the component: the whole -/
set_option maxRecDepth 100000
theorem dshD_congr {K B : List Int32} {n : Nat} {f g : Nat → Int32} (e : ∀ i, i < n → f i = g i) : dshD K B n f = dshD K B n g := by
  unfold dshD
  rw [shaD_congr e]
theorem sgH_same {h : AH} {Sg : Nat} {W : List Int32} {n : Nat} {P : Nat → Prop} (hl : W.length = (h.ai (Sg + 1)).length) (h0 : P Sg) (h1 : P (Sg + 1)) : Same P h (sgH h Sg W n) := (Same.rf.wi W hl (Or.inl h1)).pi _ _ (Or.inl h0)
section Mk3
variable {G : Gx} {d : Nat} {h : AH} {Sg q inp D a ty : Nat} {K B L : List Int32} {t : TxP}
theorem Sg_make_spec (hd : 8 ≤ d) (A : SgA h Sg D a) (DA : DgA h D K B) (T : SgT h Sg q L t inp) (TI : TxIn L t) (hDS : D + 15 < Sg) (ka : h.kd a = 101) (na : a ≠ Sg + 1) (na2 : a ≠ Sg + 2) (eL : h.ai a = L) (hty : ty < 256)
    {sa so sn : Nat} (ks : h.kd sa = 101) (ns : sa ≠ Sg + 1) (ns2 : sa ≠ Sg + 2) (hs : so + sn ≤ (h.ai sa).length) (hs2 : (h.ai sa).length < 2 ^ 16) (hsn : sn ≤ 1600) :
    Cw G mX8_make d 0 [vR Sg, vI (nI ty), vR sa, vI (nI so), vI (nI sn)] h (kV (fun h' => (h'.ai (Sg + 2) = mkP K B L t inp ty (unmP (h.ai sa) (so + sn) so) ∧ Same (sgQ Sg D) h h' ∧ h'.z = h.z ∧ h'.s = h.s ∧ Kp [8003] Sg h h')) nE) := by
  obtain ⟨d, rfl⟩ : ∃ d', d = d' + 1 := ⟨d - 1, by omega⟩
  obtain ⟨⟨a1, a2, a3, a4, a5⟩, b1, b2, b3, b4⟩ := A
  refine eX8_make h Sg (nI ty) sa (nI so) (nI sn) (fun w => sX8_make_0 h Sg (nI ty) sa (nI so) (nI sn) ?_)
  have n21 : Sg + 2 ≠ Sg + 1 := by omega
  have main : Aw G mX8_make (d + 1) 0 h (kV (fun h' => (h'.ai (Sg + 2) = mkP K B L t inp ty (unmP (h.ai sa) (so + sn) so) ∧ Same (sgQ Sg D) h h' ∧ h'.z = h.z ∧ h'.s = h.s ∧ Kp [8003] Sg h h')) nE) 24 [vR Sg, vI (nI ty), vR sa, vI (nI so), vI (nI sn), vI (nI (ty % 32)), vI (nI (ty / 128 % 2)), vI 0, vU, vU, vU] [] h := by
    have key := loop_uc (n := 32) (P := fun j (y : List Int32) => Aw G mX8_make (d + 1) 0 h (kV (fun h' => (h'.ai (Sg + 2) = mkP K B L t inp ty (unmP (h.ai sa) (so + sn) so) ∧ Same (sgQ Sg D) h h' ∧ h'.z = h.z ∧ h'.s = h.s ∧ Kp [8003] Sg h h')) nE) 24 [vR Sg, vI (nI ty), vR sa, vI (nI so), vI (nI sn), vI (nI (ty % 32)), vI (nI (ty / 128 % 2)), vI (nI j), vU, vU, vU] [] (h.wi (Sg + 2) y))
      (fun j y => y = putB (h.ai (Sg + 2)) 0 j (fun _ => 0)) (fun j y hj hI ih => ?_) 0 (h.ai (Sg + 2)) (Nat.zero_le _) (putB_0 _ _ _).symm
    · rw [AH.wi_self] at key
      exact key
    · subst hI
      refine sX8_make_24 _ Sg (nI ty) sa (nI so) (nI sn) (nI (ty % 32)) (nI (ty / 128 % 2)) (nI j) (pk_le 32 j (fun c1 => ⟨a1, fun r3 e3 => ?_⟩) (fun c1 => ⟨a1, fun r15 e15 => ?_⟩))
      · obtain rfl : j = 32 := by omega
        have e3' : r3 = Sg + 2 := e3.trans a4
        subst e3'
        rw [AH.ai_wiS, putB_len, b4, AH.wi_wi]
        have ez : (putB (h.ai (Sg + 2)) 0 32 (fun _ => 0)).set ((0 : Int32).toNatClampNeg) (i2b 1) = dgZ := by
          rw [putB_all b4]
          decide
        rw [ez]
        refine ⟨b2, pk_in 0 32 (by decide), fun h6 e6 => ?_⟩
        have M6 : Mod (fun y => y = Sg + 2) h h6 := by rw [e6]; exact Mod.wi (by rw [b4]; rfl) rfl
        have z6 : h6.ai (Sg + 2) = dgZ := by rw [e6, AH.ai_wiS]
        clear e6
        have T6 := T.mod M6
        have s6 : h6.ai sa = h.ai sa := M6.ai ns2
        have S6 : Same (sgQ Sg D) h h6 := Same.rf.mod M6 (fun x _ e => Or.inr (Or.inr (Or.inl e)))
        have DA6 : DgA h6 D K B := DA.same S6 (fun x hx h1 h2 => by
          rcases hx with e | e | e | e
          · omega
          · omega
          · omega
          · exact e)
        have nx : (ty % 32 = 3 → inp < t.2.2.2.length) → Aw G mX8_make (d + 1) 0 h (kV (fun h' => (h'.ai (Sg + 2) = mkP K B L t inp ty (unmP (h.ai sa) (so + sn) so) ∧ Same (sgQ Sg D) h h' ∧ h'.z = h.z ∧ h'.s = h.s ∧ Kp [8003] Sg h h')) nE) 74 [vR Sg, vI (nI ty), vR sa, vI (nI so), vI (nI sn), vI (nI (ty % 32)), vI (nI (ty / 128 % 2)), vU, vU, vU, vU] [] h6 := fun hb => by
          have kd6 := M6.kd
          have B6 : SgB h6 Sg := ⟨by rw [kd6]; exact a1, by rw [M6.r]; exact a3, by rw [kd6]; exact b1⟩
          refine mk_74 (h := h6) (D := D) (a := a) (c := unmP (h.ai sa) (so + sn) so) (by omega) B6 T6 TI (by rw [M6.r]; exact a2) (by rw [kd6]; exact DA.1.1) (by rw [M6.r]; exact a4) (by rw [M6.r]; exact a5) (by rw [kd6]; exact ka) na (by rw [M6.ai na2]; exact eL) hty (by rw [kd6]; exact ks) ns (by rw [s6]; exact hs) (by rw [s6]; exact hs2) hsn (by rw [s6]) hb (by rw [M6.len]; exact b3) (fun V z RV ezz => ?_)
          have S7 : Same (sgQ Sg D) h6 (sgH h6 Sg V z.length) := sgH_same (by rw [M6.len, RV.1, b3]) (Or.inl rfl) (Or.inr (Or.inl rfl))
          have DA7 : DgA (sgH h6 Sg V z.length) D K B := DA6.same S7 (fun x hx h1 h2 => by
            rcases hx with e | e | e | e
            · omega
            · omega
            · omega
            · exact e)
          have l7 : ((sgH h6 Sg V z.length).ai (Sg + 2)).length = 32 := by rw [sgH_N n21, z6]; rfl
          have zl := RV.2.1
          have tw := Dig_twice_spec (G := G) (d := d) (h := sgH h6 Sg V z.length) (D := D) (a := Sg + 1) (off := 0) (n := z.length) (t := Sg + 2) (at_ := 0) (by omega) DA7.1 DA7.2.1 B6.2.2 (by rw [sgH_W, RV.1]; omega) (by rw [sgH_W, RV.1]; decide) (by omega) (fun p => by simp only [dgQ] at p; omega) (by show h6.kd _ = _; rw [kd6]; exact b2) (by rw [l7]; decide) (fun p => by simp only [dgQ] at p; omega) (by rw [l7]; decide)
          refine tw.nV (fun h15 Q => ?_)
          obtain ⟨M15, e15⟩ := Q
          rw [sgH_W, DA7.2.2.1, DA7.2.2.2.1, putB_all l7] at e15
          have dc : dshD K B z.length (sl V 0) = dshD K B z.length (sl z 0) := dshD_congr (fun i hi => by
            have e := sub_getD (L := V) (off := 0) hi
            rw [RV.2.2, Nat.zero_add] at e
            unfold sl
            rw [Nat.zero_add]
            exact e.symm)
          refine ⟨?_, (S6.trans S7 (fun _ _ p => p)).trans (Same.rf.mod M15 (fun _ _ p => p)) (fun x _ p => ?_), ?_, ?_, ?_⟩
          · rw [e15, dc, ezz]
            unfold mkP
            rw [if_neg (by omega)]
          · rcases p with p | p
            · exact Or.inr (Or.inr (Or.inr p))
            · exact Or.inr (Or.inr (Or.inl p))
          · rw [M15.z]; exact M6.z
          · rw [M15.s]; exact M6.s
          · intro k hk
            have k3 : k ≠ 8003 := fun e => hk (by rw [e]; exact List.mem_singleton.mpr rfl)
            refine ⟨by rw [M15.r]; show h6.r k Sg = _; rw [M6.r], by rw [M15.i, sgH_in k3, M6.i], by rw [M15.l]; show h6.l k Sg = _; rw [M6.l]⟩
        refine pk_eq' (ty % 32) 3 (fun z => nx (fun e => absurd e z)) (fun z => fun r9 e9 => ?_) rfl rfl (by omega) (by omega)
        have e9' : r9 = q := e9.trans T6.2.1
        subst e9'
        refine ⟨T6.2.2.2.1.1.1, fun r11 e11 => ?_⟩
        have e11' : r11 = r9 + 3 + t.2.2.1.length := e11.trans T6.2.2.2.1.2.2.2.2.1
        subst e11'
        rw [T6.2.2.2.1.2.2.2.2.2.2.1, rowF_len, T6.2.2.1]
        have l6 := TI.2.2.2.2.2
        have i40 := T6.2.2.2.2
        refine ⟨T6.2.2.2.1.2.2.2.2.2.1, pk_lt inp t.2.2.2.length (fun c2 => nx (fun _ => c2)) (fun c2 => ⟨?_, S6, M6.z, M6.s, fun k _ => ⟨by rw [M6.r], by rw [M6.i], by rw [M6.l]⟩⟩)⟩
        unfold mkP
        rw [if_pos ⟨z, by omega⟩]
        exact z6
      · have e15' : r15 = Sg + 2 := e15.trans a4
        subst e15'
        rw [AH.ai_wiS, putB_len, b4, AH.wi_wi, pk_cl j rfl (by omega), show i2b 0 = 0 by decide]
        refine ⟨b2, pk_in j 32 (by omega), fun h18 e18 => ?_⟩
        rw [e18, nI_1]
        refine ih c1 _ ?_
        have := putB_succ (L := h.ai (Sg + 2)) (off := 0) (n := j) (g := fun _ => 0) (x := 0) (by omega) rfl
        rw [Nat.zero_add] at this
        exact this
  have a128 := and_128 ty hty
  rw [and_31 (by omega)]
  refine ⟨fun z => ?_, fun z => ?_⟩
  · have : ty / 128 % 2 = 0 := a128.mp z
    rw [this] at main
    exact main
  · have : ty / 128 % 2 = 1 := by have : ¬ ty / 128 % 2 = 0 := fun e => z (a128.mpr e); omega
    rw [this] at main
    exact main
end Mk3

/-! the digest that is signed, by the component -/
set_option maxRecDepth 100000
def SgA (h : AH) (Sg D a : Nat) : Prop := (h.kd Sg = 8 ∧ h.r 8000 Sg = D ∧ h.r 8002 Sg = Sg + 1 ∧ h.r 8004 Sg = Sg + 2 ∧ h.r 8005 Sg = a) ∧ h.kd (Sg + 1) = 101 ∧ h.kd (Sg + 2) = 101 ∧ (h.ai (Sg + 1)).length = 6400 ∧ (h.ai (Sg + 2)).length = 32
def sgQ (Sg D y : Nat) : Prop := y = Sg ∨ y = Sg + 1 ∨ y = Sg + 2 ∨ dgQ D y
def dgZ : List Int32 := (List.range 32).map (fun i => if i = 0 then 1 else 0)
theorem SgT.mod {P : Nat → Prop} {h h' : AH} {Sg q inp : Nat} {L : List Int32} {t : TxP} (H : SgT h Sg q L t inp) (M : Mod P h h') : SgT h' Sg q L t inp := by
  obtain ⟨k1, k2, k3, T, k4, k5⟩ := H
  obtain ⟨⟨a1, a2, a3, a4, a5, a6, a7⟩, ⟨b1, b2, b3⟩, c1, c2, c3, e1, e2, e3⟩ := T
  refine ⟨by rw [M.kd]; exact k1, by rw [M.r]; exact k2, by rw [M.i]; exact k3, ⟨⟨?_, ?_, ?_, ?_, ?_, by rw [M.len]; exact a6, ?_⟩, ⟨?_, ?_, fun j hj => ?_⟩, ?_, ?_, ?_, ?_, ?_, fun j hj => ?_⟩, k4, k5⟩ <;>
    first
    | (rw [M.kd]; assumption)
    | (rw [M.r]; assumption)
    | (rw [M.i]; assumption)
    | (rw [M.l]; assumption)
    | (rw [M.ar]; assumption)
    | (unfold InAt; rw [M.kd, M.i, M.l]; exact b3 j hj)
    | (unfold OutAt; rw [M.kd, M.i, M.l]; exact e3 j hj)
section Mk2
variable {G : Gx} {d : Nat} {h h0 : AH} {Sg q inp D a ty : Nat} {L W acc c : List Int32} {t : TxP} {F : AH → Prop}
theorem mk_115 (hd : 5 ≤ d) (B : SgB h Sg) (T : SgT h Sg q L t inp) (TI : TxIn L t) (e0 : h.r 8000 Sg = D) (kD : h.kd D = 2) (e4 : h.r 8004 Sg = Sg + 2) (e5 : h.r 8005 Sg = a) (ka : h.kd a = 101) (na : a ≠ Sg + 1) (eL : h.ai a = L) (hty : ty < 256) {sa so sn : Nat} (ks : h.kd sa = 101) (ns : sa ≠ Sg + 1) (hs : so + sn ≤ (h.ai sa).length) (hs2 : (h.ai sa).length < 2 ^ 16) (hsn : sn ≤ 1600) (ec : c = unmP (h.ai sa) (so + sn) so) (h3 : ty % 32 = 3 → inp < t.2.2.2.length) (R : SgR W acc) (hn : acc.length ≤ 7) (hF : ∀ V z, SgR V z → z = acc ++ catU (inB L t.2.2.1 inp (ty % 32) (ty / 128 % 2) c) t.2.2.1.length ++ cntB (nOut t inp (ty % 32)) ++ catU (outB L t.2.2.2 inp (ty % 32)) (nOut t inp (ty % 32)) ++ (lay (lkV L t) 4 ++ lay ty 4) → Cw G mX2_twice d 0 [vR D, vR (Sg + 1), vI 0, vI (nI z.length), vR (Sg + 2), vI 0] (sgH h Sg V z.length) (kV F nE)) :
    Aw G mX8_make (d + 1) 0 h0 (kV F nE) 115 [vR Sg, vI (nI ty), vR sa, vI (nI so), vI (nI sn), vI (nI (ty % 32)), vI (nI (ty / 128 % 2)), vI 0, vU, vU, vU] [] (sgH h Sg W acc.length) := by
  have T' := T
  have TI' := TI
  obtain ⟨k1, k2, k3, TT, k4, k5⟩ := T
  obtain ⟨l1, l2, l3, l4, l5, l6⟩ := TI
  have lc : c.length ≤ 1600 := by
    have := unmP_len (h.ai sa) (so + sn) (so + sn - so) so (Nat.le_refl _)
    rw [ec]
    omega
  have iS := ins_len L t.2.2.1 inp (ty % 32) (ty / 128 % 2) c
  refine loop_uc (n := t.2.2.1.length) (P := fun j (y : List Int32 × List Int32) => Aw G mX8_make (d + 1) 0 h0 (kV F nE) 115 [vR Sg, vI (nI ty), vR sa, vI (nI so), vI (nI sn), vI (nI (ty % 32)), vI (nI (ty / 128 % 2)), vI (nI j), vU, vU, vU] [] (sgH h Sg y.1 y.2.length))
    (fun j y => SgR y.1 y.2 ∧ y.2 = acc ++ catU (inB L t.2.2.1 inp (ty % 32) (ty / 128 % 2) c) j) (fun j y hj hI ih => ?_) 0 (W, acc) (Nat.zero_le _) ⟨R, (List.append_nil acc).symm⟩
  obtain ⟨V, x⟩ := y
  obtain ⟨RV, ex⟩ := hI
  dsimp only at RV ex ih ⊢
  have xl : x.length = acc.length + (catU (inB L t.2.2.1 inp (ty % 32) (ty / 128 % 2) c) j).length := by rw [ex, List.length_append]
  have isj := iS j
  have xb : x.length ≤ 7 + 1600 + 1602 := by
    have : (if inp < j then 2 + c.length else 0) ≤ 1602 := by split <;> omega
    omega
  refine sX8_make_115 _ Sg (nI ty) sa (nI so) (nI sn) (nI (ty % 32)) (nI (ty / 128 % 2)) (nI j) ⟨k1, fun r2 e2 => ?_⟩
  have e2' : r2 = q := e2.trans k2
  subst e2'
  refine ⟨TT.1.1, fun r4 e4' => ?_⟩
  have e4'' : r4 = r2 + 2 := e4'.trans TT.1.2.2.2.2.2.2
  subst e4''
  have er : (sgH h Sg V x.length).ar (r2 + 2) = rowF (fun j => r2 + 2 + 1 + j) t.2.2.1.length t.2.2.1.length := TT.2.1.2.1
  have er2 : (sgH h Sg V x.length).ar (r2 + 3 + t.2.2.1.length) = rowF (fun j => r2 + 3 + t.2.2.1.length + 1 + j) t.2.2.2.length t.2.2.2.length := TT.2.2.2.2.2.2.1
  rw [er, rowF_len, sgH_in (by decide), k3]
  refine ⟨TT.2.1.1, pk_le t.2.2.1.length j (fun c1 => ?_) (fun c1 => ?_)⟩
  · obtain rfl : j = t.2.2.1.length := by omega
    have go : ∀ m, m = nOut t inp (ty % 32) → m ≤ t.2.2.2.length → Cw G mX8_count d 0 [vR Sg, vI (nI m)] (sgH h Sg V x.length) (kV (fun h12 => Aw G mX8_make (d + 1) 0 h0 (kV F nE) 294 [vR Sg, vI (nI ty), vU, vU, vU, vI (nI (ty % 32)), vU, vI (nI m), vI 0, vU, vU] [] h12) (fun x h => kV F nE (.inr x) h)) := fun m em hm => by
      have lm := cntB_len m
      refine (Sg_count_spec (d := d) (by omega) B RV (by omega) (by omega)).nV (fun h12 Q => ?_)
      obtain ⟨V2, R2, rfl⟩ := Q
      refine mk_294 (by omega) B T' TI' e0 kD e4 e5 ka na eL hty hm R2 (by rw [List.length_append]; omega) (fun V z Rz ez => hF V z Rz ?_)
      rw [ez, ex, em]
    refine pk_eq' (ty % 32) 2 (fun z2 => ?_) (fun z2 => go 0 (by unfold nOut; rw [if_pos z2]) (Nat.zero_le _)) rfl rfl (by omega) (by omega)
    refine pk_eq' (ty % 32) 3 (fun z3 => fun r9 e9 => ?_) (fun z3 => ?_) rfl rfl (by omega) (by omega)
    · have e9' : r9 = r2 + 3 + t.2.2.1.length := e9.trans TT.2.2.2.2.1
      subst e9'
      rw [er2, rowF_len]
      exact ⟨TT.2.2.2.2.2.1, go _ (by unfold nOut; rw [if_neg z2, if_neg z3]) (Nat.le_refl _)⟩
    · rw [nI_1]
      exact go _ (by unfold nOut; rw [if_neg z2, if_pos z3]) (h3 z3)
  · have one : ¬ (ty / 128 % 2 ≠ 0 ∧ j ≠ inp) → Aw G mX8_make (d + 1) 0 h0 (kV F nE) 145 [vR Sg, vI (nI ty), vR sa, vI (nI so), vI (nI sn), vI (nI (ty % 32)), vI (nI (ty / 128 % 2)), vI (nI j), vU, vU, vU] [] (sgH h Sg V x.length) := fun hal =>
      mk_145 hd B T' TI' e0 kD e4 e5 ka na eL hty ks ns hs hs2 hsn ec c1 RV (by omega) _ hal (fun V2 R2 => ih c1 (V2, x ++ inB L t.2.2.1 inp (ty % 32) (ty / 128 % 2) c j) ⟨R2, by dsimp only; rw [ex, catU, List.append_assoc]⟩)
    refine pk_eq' (ty / 128 % 2) 0 (fun z => ?_) (fun z => one (by omega)) rfl rfl (by omega) (by omega) |>.symm
    refine pk_eq' j inp (fun z2 => ?_) (fun z2 => one (by omega)) rfl rfl (by omega) (by omega) |>.symm
    rw [nI_1]
    refine ih c1 (V, x) ⟨RV, ?_⟩
    dsimp only
    rw [ex, catU]
    have : inB L t.2.2.1 inp (ty % 32) (ty / 128 % 2) c j = [] := by unfold inB; rw [if_pos ⟨z, z2⟩]
    rw [this, List.append_nil]
theorem and_128 : ∀ n, n < 256 → (nI n &&& 128 = 0 ↔ n / 128 % 2 = 0) := by decide +kernel
theorem mk_74 (hd : 5 ≤ d) (B : SgB h Sg) (T : SgT h Sg q L t inp) (TI : TxIn L t) (e0 : h.r 8000 Sg = D) (kD : h.kd D = 2) (e4 : h.r 8004 Sg = Sg + 2) (e5 : h.r 8005 Sg = a) (ka : h.kd a = 101) (na : a ≠ Sg + 1) (eL : h.ai a = L) (hty : ty < 256) {sa so sn : Nat} (ks : h.kd sa = 101) (ns : sa ≠ Sg + 1) (hs : so + sn ≤ (h.ai sa).length) (hs2 : (h.ai sa).length < 2 ^ 16) (hsn : sn ≤ 1600) (ec : c = unmP (h.ai sa) (so + sn) so) (h3 : ty % 32 = 3 → inp < t.2.2.2.length) (l6 : (h.ai (Sg + 1)).length = 6400)
    (hF : ∀ V z, SgR V z → z = sgdP L t inp ty c → Cw G mX2_twice d 0 [vR D, vR (Sg + 1), vI 0, vI (nI z.length), vR (Sg + 2), vI 0] (sgH h Sg V z.length) (kV F nE)) :
    Aw G mX8_make (d + 1) 0 h0 (kV F nE) 74 [vR Sg, vI (nI ty), vR sa, vI (nI so), vI (nI sn), vI (nI (ty % 32)), vI (nI (ty / 128 % 2)), vU, vU, vU, vU] [] h := by
  have T' := T
  have TI' := TI
  obtain ⟨k1, k2, k3, TT, k4, k5⟩ := T
  obtain ⟨l1, l2, l3, l4, l5, l7⟩ := TI
  refine sX8_make_74 _ Sg (nI ty) sa (nI so) (nI sn) (nI (ty % 32)) (nI (ty / 128 % 2)) ⟨k1, fun h2 e2 r4 er4 => ?_⟩
  have eh : h2 = sgH h Sg (h.ai (Sg + 1)) ([] : List Int32).length := by
    rw [e2]
    unfold sgH
    rw [AH.wi_self]
    rfl
  have R0 : SgR (h.ai (Sg + 1)) [] := ⟨l6, Nat.zero_le _, rfl⟩
  clear e2
  subst eh
  have er4' : r4 = q := er4.trans k2
  subst er4'
  have el : (sgH h Sg (h.ai (Sg + 1)) ([] : List Int32).length).l 18003 r4 = lN (leV L t.1 4) := TT.1.2.2.2.1
  rw [el]
  refine ⟨TT.1.1, (Sg_put_spec (k := 4) (d := d) (by omega) B R0 (leV_b64 _ _ (by decide)) (by decide) (by simp)).nV (fun h7 Q => ?_)⟩
  obtain ⟨V7, R7, rfl⟩ := Q
  rw [List.nil_append] at R7 ⊢
  have go : ∀ m, m = (if ty / 128 % 2 ≠ 0 then 1 else t.2.2.1.length) → Cw G mX8_count d 0 [vR Sg, vI (nI m)] (sgH h Sg V7 (lay (leV L t.1 4) 4).length) (kV (fun h16 => Aw G mX8_make (d + 1) 0 h0 (kV F nE) 115 [vR Sg, vI (nI ty), vR sa, vI (nI so), vI (nI sn), vI (nI (ty % 32)), vI (nI (ty / 128 % 2)), vI 0, vU, vU, vU] [] h16) (fun x h => kV F nE (.inr x) h)) := fun m em => by
    have hm : m ≤ 40 := by rw [em]; split <;> omega
    have lm := cntB_len m
    refine (Sg_count_spec (d := d) (by omega) B R7 (by omega) (by rw [lay_len]; omega)).nV (fun h16 Q => ?_)
    obtain ⟨V16, R16, rfl⟩ := Q
    refine mk_115 hd B T' TI' e0 kD e4 e5 ka na eL hty ks ns hs hs2 hsn ec h3 R16 (by rw [List.length_append, lay_len]; omega) (fun V z Rz ez => hF V z Rz ?_)
    rw [ez, em]
    unfold sgdP
    rw [List.append_assoc _ (lay (lkV L t) 4) (lay ty 4)]
  refine pk_eq' (ty / 128 % 2) 0 (fun z => go 1 (by rw [if_pos z])) (fun z => fun r13 e13 => ?_) rfl rfl (by omega) (by omega) |>.symm
  have e13' : r13 = r4 + 2 := e13.trans TT.1.2.2.2.2.2.2
  subst e13'
  have er : (sgH h Sg V7 (lay (leV L t.1 4) 4).length).ar (r4 + 2) = rowF (fun j => r4 + 2 + 1 + j) t.2.2.1.length t.2.2.1.length := TT.2.1.2.1
  rw [er, rowF_len]
  exact ⟨TT.2.1.1, go _ (by rw [if_neg (by omega)])⟩
end Mk2

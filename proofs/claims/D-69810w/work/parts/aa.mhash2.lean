/-! the reference: what is signed: the whole -/
set_option maxRecDepth 100000
def HaQ (M cu le ga y : Nat) : Prop := y = M ∨ y = cu ∨ y = le ∨ y = ga ∨ y = M + 46 ∨ mdQ M y
theorem md_rng {M x : Nat} (m : mdQ M x) : M + 1 ≤ x ∧ x ≤ M + 15 ∧ x ≠ M + 4 ∧ x ≠ M + 5 := by
  rcases m with m | m
  · unfold mdP at m
    omega
  · omega
theorem MdS.ai {h h' : AH} {M : Nat} (H : MdS h M) (k : h'.kd = h.kd) (r : h'.r = h.r) (e : ∀ q, M + 1 ≤ q → q ≤ M + 15 → h'.ai q = h.ai q) : MdS h' M := by
  unfold MdS at H ⊢
  rw [k, r, e (M + 1) (by omega) (by omega), e (M + 2) (by omega) (by omega), e (M + 3) (by omega) (by omega), e (M + 4) (by omega) (by omega), e (M + 5) (by omega) (by omega), e (M + 9) (by omega) (by omega), e (M + 10) (by omega) (by omega), e (M + 11) (by omega) (by omega), e (M + 12) (by omega) (by omega), e (M + 13) (by omega) (by omega), e (M + 14) (by omega) (by omega), e (M + 15) (by omega) (by omega)]
  exact H
theorem MdS.kp {h h' : AH} {M : Nat} {ks : List Nat} (H : MdS h M) (k0 : h'.kd M = h.kd M) (kp : Kp ks M h h') (hk : ∀ k, k < 24040 → k ∉ ks) (e : ∀ q, M + 1 ≤ q → q ≤ M + 15 → h'.kd q = h.kd q ∧ (h'.ai q).length = (h.ai q).length) : MdS h' M := by
  have E : ∀ q, M + 1 ≤ q → q ≤ M + 15 → h'.kd q = h.kd q := fun q a b => (e q a b).1
  have L : ∀ q, M + 1 ≤ q → q ≤ M + 15 → (h'.ai q).length = (h.ai q).length := fun q a b => (e q a b).2
  have R : ∀ k, k < 24040 → h'.r k M = h.r k M := fun k hk' => (kp k (hk k hk')).1
  unfold MdS at H ⊢
  rw [k0, R 24000 (by decide), R 24001 (by decide), R 24002 (by decide), R 24003 (by decide), R 24004 (by decide), R 24008 (by decide), R 24009 (by decide), R 24010 (by decide), R 24011 (by decide), R 24012 (by decide), R 24013 (by decide), R 24014 (by decide),
    E (M + 1) (by omega) (by omega), E (M + 2) (by omega) (by omega), E (M + 3) (by omega) (by omega), E (M + 4) (by omega) (by omega), E (M + 5) (by omega) (by omega), E (M + 9) (by omega) (by omega), E (M + 10) (by omega) (by omega), E (M + 11) (by omega) (by omega), E (M + 12) (by omega) (by omega), E (M + 13) (by omega) (by omega), E (M + 14) (by omega) (by omega), E (M + 15) (by omega) (by omega),
    L (M + 1) (by omega) (by omega), L (M + 2) (by omega) (by omega), L (M + 3) (by omega) (by omega), L (M + 4) (by omega) (by omega), L (M + 5) (by omega) (by omega), L (M + 9) (by omega) (by omega), L (M + 10) (by omega) (by omega), L (M + 11) (by omega) (by omega), L (M + 12) (by omega) (by omega), L (M + 13) (by omega) (by omega), L (M + 14) (by omega) (by omega), L (M + 15) (by omega) (by omega)]
  exact H
theorem PrS.eqc {h h' : AH} {p : Nat} (H : PrS h p) (e : ∀ q, p ≤ q → q ≤ p + 7 → eqAt h h' q) : PrS h' p := by
  have e0 := e p (by omega) (by omega)
  have k : ∀ q, p + 1 ≤ q → q ≤ p + 7 → h'.kd q = h.kd q ∧ h'.ai q = h.ai q := fun q a b => ⟨(e q (by omega) b).1, (e q (by omega) b).2.2.2.2.1⟩
  unfold PrS at H ⊢
  rw [e0.1, e0.2.1, e0.2.1, e0.2.1, e0.2.1, e0.2.1, e0.2.1, e0.2.1, (k (p + 1) (by omega) (by omega)).1, (k (p + 2) (by omega) (by omega)).1, (k (p + 3) (by omega) (by omega)).1, (k (p + 4) (by omega) (by omega)).1, (k (p + 5) (by omega) (by omega)).1, (k (p + 6) (by omega) (by omega)).1, (k (p + 7) (by omega) (by omega)).1,
    (k (p + 1) (by omega) (by omega)).2, (k (p + 2) (by omega) (by omega)).2, (k (p + 3) (by omega) (by omega)).2, (k (p + 4) (by omega) (by omega)).2, (k (p + 5) (by omega) (by omega)).2, (k (p + 6) (by omega) (by omega)).2, (k (p + 7) (by omega) (by omega)).2]
  exact H
theorem PrT.eqc {h h' : AH} {p j : Nat} {K B L : List Int32} {t : TxP} (H : PrT h p K B L j t) (e : ∀ q, p ≤ q → q ≤ p + 7 → eqAt h h' q) : PrT h' p K B L j t := H.eq (fun q a b => by rw [(e q (by omega) (by omega)).2.2.2.2.1]) (fun i _ => by rw [(e (p + 7) (by omega) (by omega)).2.2.2.2.1])
section Hash2
variable {G : Gx} {d : Nat} {h h0 : AH} {M ga p a n j inp ty cu le : Nat} {K B L c : List Int32} {t : TxP} {F : AH → Prop}
/-- the message before anything is laid -/
theorem hs_14 (kM : h.kd M = 24) (r35 : h.r 24035 M = M + 46) (k46 : h.kd (M + 46) = 101) (l46 : (h.ai (M + 46)).length = 32) (kP : h.kd p = 26) (r5 : h.r 26005 p = p + 4) (k4 : h.kd (p + 4) = 100) (l4 : (h.ai (p + 4)).length = 12) (n4 : p + 4 ≠ M + 46) (v4 : (h.ai (p + 4)).getD j 0 = nI t.2.2.2.length) (hj : j < 12) (ho : t.2.2.2.length < 2 ^ 20) (hi : inp < 2 ^ 20)
    (k62 : (ty % 32 = 3 → inp < t.2.2.2.length) → Aw G mX24_hashed (d + 1) 0 h0 (kV F nE) 62 [vR M, vR p, vI (nI j), vI (nI inp), vI (nI ty), vI (nI (ty % 32)), vU, vU, vU, vU, vU] [] (h.wi (M + 46) ((List.range 32).map (fun i => if i = 0 then (1 : Int32) else 0)))) (kE : ty % 32 = 3 → t.2.2.2.length ≤ inp → F (h.wi (M + 46) ((List.range 32).map (fun i => if i = 0 then (1 : Int32) else 0)))) :
    Aw G mX24_hashed (d + 1) 0 h0 (kV F nE) 14 [vR M, vR p, vI (nI j), vI (nI inp), vI (nI ty), vI (nI (ty % 32)), vI 0, vU, vU, vU, vU] [] h := by
  have key := loop_uc (n := 32) (P := fun i (T : List Int32) => Aw G mX24_hashed (d + 1) 0 h0 (kV F nE) 14 [vR M, vR p, vI (nI j), vI (nI inp), vI (nI ty), vI (nI (ty % 32)), vI (nI i), vU, vU, vU, vU] [] (h.wi (M + 46) T)) (fun i T => T.length = 32 ∧ ∀ m, m < i → T.getD m 0 = if m = 0 then 1 else 0) (fun i T hi' hI ih => ?_) 0 (h.ai (M + 46)) (Nat.zero_le _) ⟨l46, fun m hm => absurd hm (Nat.not_lt_zero _)⟩
  · rw [AH.wi_self] at key
    exact key
  · obtain ⟨lT, gT⟩ := hI
    refine sX24_hashed_14 _ M p (nI j) (nI inp) (nI ty) (nI (ty % 32)) (nI i) (pk_le 32 i (fun z => ?_) (fun z => ⟨kM, fun r9 e9 => ?_⟩))
    · have eT : T = ((List.range 32).map (fun i => if i = 0 then (1 : Int32) else 0)) := by
        refine ext_getD (z := 0) (by rw [lT, mapR_len]) (fun m hm => ?_)
        rw [lT] at hm
        rw [gT m (by omega), mapR_getD hm]
      rw [eT]
      refine pk_eq' (ty % 32) 3 (fun z2 => k62 (fun q => absurd q z2)) (fun z2 => ⟨kP, fun r4 e4 => ?_⟩)
      have e4' : r4 = p + 4 := e4.trans r5
      subst e4'
      rw [AH.ai_wiN n4, l4, pk_cl j rfl (by omega), v4]
      exact ⟨k4, pk_in j 12 hj, pk_lt inp t.2.2.2.length (fun z3 => k62 (fun _ => z3)) (fun z3 => kE z2 z3)⟩
    · have e9' : r9 = M + 46 := e9.trans r35
      subst e9'
      rw [AH.ai_wiS, AH.wi_wi, AH.wi_wi, lT, pk_cl i rfl (by omega), nI_1]
      have nx : ∀ x : Int32, x = (if i = 0 then 1 else 0) → Aw G mX24_hashed (d + 1) 0 h0 (kV F nE) 14 [vR M, vR p, vI (nI j), vI (nI inp), vI (nI ty), vI (nI (ty % 32)), vI (nI (i + 1)), vU, vU, vU, vU] [] (h.wi (M + 46) (T.set i x)) := fun x hx => ih (by omega) _ ⟨by rw [List.length_set]; exact lT, fun m hm => by
        by_cases q : m = i
        · rw [q, getD_set_eq (by omega), hx]
        · rw [getD_set_ne q]
          exact gT m (by omega)⟩
      refine pk_eq' i 0 (fun z2 => ⟨k46, pk_in i 32 (by omega), fun h13 e13 => ?_⟩) (fun z2 => ⟨k46, pk_in i 32 (by omega), fun h13 e13 => ?_⟩)
      · rw [e13]
        exact nx _ (by rw [if_neg z2]; decide)
      · rw [e13]
        exact nx _ (by rw [if_pos z2]; decide)
/-- laying begins -/
theorem hs_62 (hd : 5 ≤ d) (kM : h.kd M = 24) (Hs : HsB h M ga) (P : PrS h p) (rp : h.r 26000 p = a) (ka : h.kd a = 101) (eL : h.ai a = L) (BL : isB L) (W : TxW L n t) (T : PrT h p K B L j t) (hj : j < 12) (na : a ≠ ga) (np : ∀ q, p + 1 ≤ q → q ≤ p + 7 → q ≠ ga) (C : CutAt h M cu le c) (nc : cu ≠ ga) (TI : TxIn L t) (hinp : inp < t.2.2.1.length) (hty : ty < 256) (lga : (h.ai ga).length = 16384) (h3 : ty % 32 = 3 → inp < t.2.2.2.length)
    (ih : ∀ u v V A, HsR V A → A = sgdP L t inp ty c → A.length ≤ 6100 → ∀ r14 : Nat, r14 = ga → ∀ r15 : Nat, r15 = (h.r 24035 M) → Cw G mX24_again d 0 [vR M, vR r14, vI 0, vI (nI A.length), vR r15, vI 0] (hxH h M ga u v V A.length) (kV (fun h17 => F h17) (fun x h => (kV F nE) (.inr x) h))) :
    Aw G mX24_hashed (d + 1) 0 h0 (kV F nE) 62 [vR M, vR p, vI (nI j), vI (nI inp), vI (nI ty), vI (nI (ty % 32)), vU, vU, vU, vU, vU] [] h := by
  have hL := W.1
  have hE := W.2.1
  have l4 := TI.2.2.2.1
  have l6 := TI.2.2.2.2.2
  have iS := ins_len L t.2.2.1 inp (ty % 32) (ty / 128 % 2) c t.2.2.1.length
  have cl : c.length ≤ 1600 := C.2.2.2.2.2.2.2.2.2.1
  refine sX24_hashed_62 h M p (nI j) (nI inp) (nI ty) (nI (ty % 32)) ⟨kM, fun h2 e2 => ?_⟩
  have eh : h2 = hxH h M ga (h.i 24041 M) (h.i 24040 M) (h.ai ga) ([] : List Int32).length := by
    rw [e2]
    show h.pi 24091 M 0 = ((scH h M (h.i 24041 M) (h.i 24040 M)).wi ga (h.ai ga)).pi 24091 M (nI 0)
    rw [scH_self, AH.wi_self]
    rfl
  rw [eh]
  clear e2 eh h2
  have R0 : HsR (h.ai ga) ([] : List Int32) := ⟨lga, Nat.zero_le _, rfl⟩
  refine ⟨P.1, fun r4 e4 r5 e5 => ?_⟩
  have e5' : r5 = p + 1 := e5.trans P.2.1.1
  subst e5'
  rw [show r4 = a from e4.trans rp, hx_a (np (p + 1) (by omega) (by omega)), P.2.2.2.1, pk_cl j rfl (by omega), T.1]
  refine ⟨P.2.2.1.1, pk_in j 12 hj, hx_lay (m := 4) (by omega) Hs ka na R0 (by rw [eL]; omega) (by rw [eL]; omega) (by decide) (fun V1 R1 => ?_)⟩
  rw [eL, List.nil_append, ← lay_leV BL] at R1 ⊢
  have len1 : (lay (leV L t.1 4) 4).length = 4 := lay_len _ _
  have a128 := and_128 ty hty
  have go : ∀ m al, m = (if ty / 128 % 2 ≠ 0 then 1 else t.2.2.1.length) → al = nI (ty / 128 % 2) → m < 65536 → ∀ u v, Cw G mX24_layCount d 0 [vR M, vJ (lN m)] (hxH h M ga u v V1 (lay (leV L t.1 4) 4).length) (kV (fun h18 => Aw G mX24_hashed (d + 1) 0 h0 (kV F nE) 121 [vR M, vR p, vI (nI j), vI (nI inp), vI (nI ty), vI (nI (ty % 32)), vI al, vI 0, vU, vU, vU] [] h18) (fun x h => (kV F nE) (.inr x) h)) := fun m al em eal hm u v => by
    refine hx_cnt (by omega) Hs R1 hm (by omega) (fun V2 R2 => ?_)
    rw [em] at R2 ⊢
    rw [eal]
    have cb := cntB_len (if ty / 128 % 2 ≠ 0 then 1 else t.2.2.1.length)
    refine hs_121 (by omega) kM Hs P rp ka eL BL W T hj na np C nc TI hinp hty R2 (by rw [List.length_append]; omega) h3 (fun u3 v3 V3 A3 R3 eA3 => ?_)
    have cb2 := cntB_len (nOut t inp (ty % 32))
    have lA3 : A3.length ≤ 4000 := by
      rw [eA3, List.length_append, List.length_append, List.length_append]
      have : (if inp < t.2.2.1.length then 2 + c.length else 0) ≤ 1602 := by split <;> omega
      omega
    have nO : nOut t inp (ty % 32) ≤ t.2.2.2.length := by
      unfold nOut
      split
      · omega
      · split
        · rename_i q
          have := h3 q
          omega
        · omega
    refine hs_305 hd kM Hs P rp ka eL BL W T hj na np C nc TI hinp hty R3 lA3 nO (fun u4 v4 V4 A4 R4 eA4 lA4 => ih u4 v4 V4 A4 R4 ?_ lA4)
    rw [eA4, eA3]
    rfl
  refine ⟨fun z => ⟨fun _ r14 e14 => ?_, fun q => absurd rfl q⟩, fun z => ⟨fun q => absurd q (by decide), fun _ => ?_⟩⟩
  · have z' := a128.mp z
    have e14' : r14 = p + 3 := e14.trans P.2.1.2.2.1
    subst e14'
    rw [hx_a (np (p + 3) (by omega) (by omega)), P.2.2.2.2.2.1, T.2.2.1]
    refine ⟨P.2.2.1.2.2.1, pk_in j 12 hj, ?_⟩
    rw [nI_l (by omega)]
    exact go _ _ (by rw [if_neg (fun q => q z')]) (by rw [z']; rfl) (by omega) _ _
  · have z' : ¬ ty / 128 % 2 = 0 := fun q => z (a128.mpr q)
    exact go 1 1 (by rw [if_pos z']) (by rw [show ty / 128 % 2 = 1 by omega]; rfl) (by decide) _ _
set_option maxHeartbeats 2000000 in
theorem MD_hashed_spec (hd : 6 ≤ d) (C : CutAt h M cu le c) (Md : McA h M K B) (r35 : h.r 24035 M = M + 46) (k46 : h.kd (M + 46) = 101) (l46 : (h.ai (M + 46)).length = 32) (Hs : HsB h M ga) (lga : (h.ai ga).length = 16384) (P : PrS h p) (rp : h.r 26000 p = a) (ka : h.kd a = 101) (eL : h.ai a = L) (W : TxW L n t) (T : PrT h p K B L j t) (hj : j < 12) (TI : TxIn L t) (hinp : inp < t.2.2.1.length) (hty : ty < 256)
    (y1 : M + 46 < cu ∧ M + 46 < le ∧ M + 46 < ga ∧ cu ≠ ga ∧ le ≠ ga) (y2 : ¬ HaQ M cu le ga a) (y3 : ∀ q, p ≤ q → q ≤ p + 7 → ¬ HaQ M cu le ga q ∧ q < h.z) (y4 : a < h.z ∧ cu < h.z ∧ le < h.z ∧ ga < h.z ∧ M + 46 < h.z) :
    Cw G mX24_hashed d 0 [vR M, vR p, vI (nI j), vI (nI inp), vI (nI ty)] h (kV (fun h' => h'.ai (M + 46) = mkP K B L t inp ty (unmP c c.length 0) ∧ CutAt h' M le cu (unmP c c.length 0) ∧ Same (HaQ M cu le ga) h h' ∧ h'.z = h.z ∧ h'.s = h.s ∧ Kp [24040, 24041, 24063, 24087, 24088, 24089, 24091] M h h') nE) := by
  obtain ⟨d, rfl⟩ : ∃ d', d = d' + 1 := ⟨d - 1, by omega⟩
  refine eX24_hashed h M p (nI j) (nI inp) (nI ty) (fun wf => sX24_hashed_0 h M p (nI j) (nI inp) (nI ty) ⟨Hs.1, ?_⟩)
  have BL : isB L := by rw [← eL]; exact wf.isB ka
  rw [and_31 (show ty < 4294967296 by omega)]
  refine (MD_unmarked_spec (by omega) C).nV (fun h2 Q => ?_)
  obtain ⟨C2, S2, z2, s2, K2⟩ := Q
  -- what stays
  have ne : ∀ {x}, ¬ HaQ M cu le ga x → ¬ (x = M ∨ x = cu ∨ x = le) := fun hx q => hx (by
    rcases q with q | q | q
    · exact Or.inl q
    · exact Or.inr (Or.inl q)
    · exact Or.inr (Or.inr (Or.inl q)))
  have ea2 : eqAt h h2 a := S2.2.2 a y4.1 (ne y2)
  have ep2 : ∀ q, p ≤ q → q ≤ p + 7 → eqAt h h2 q := fun q q1 q2 => S2.2.2 q (y3 q q1 q2).2 (ne (y3 q q1 q2).1)
  have eM2 : ∀ q, M + 1 ≤ q → q ≤ M + 46 → eqAt h h2 q := fun q q1 q2 => S2.2.2 q (by omega) (by omega)
  have eg2 : eqAt h h2 ga := S2.2.2 ga y4.2.2.2.1 (by omega)
  have kM2 : h2.kd M = h.kd M := S2.kd (by omega)
  have P2 : PrS h2 p := P.eqc ep2
  have T2 : PrT h2 p K B L j t := T.eqc ep2
  have l40 := TI.2.2.2.1
  have l6 := TI.2.2.2.2.2
  have n4 : p + 4 ≠ M + 46 := fun q => (y3 (p + 4) (by omega) (by omega)).1 (by rw [q]; exact Or.inr (Or.inr (Or.inr (Or.inr (Or.inl rfl)))))
  have kp2 : ∀ k, k ∉ [24063, 24087, 24088, 24089] → h2.r k M = h.r k M := fun k hk => (K2 k hk).1
  generalize hm1 : h2.wi (M + 46) ((List.range 32).map (fun i => if i = 0 then (1 : Int32) else 0)) = hm
  have Sm : Same (HaQ M cu le ga) h hm := by
    rw [← hm1]
    refine (S2.mono (fun y _ q => ?_)).wi _ (by rw [mapR_len, (eM2 (M + 46) (by omega) (by omega)).2.2.2.2.1, l46]) (Or.inl (Or.inr (Or.inr (Or.inr (Or.inr (Or.inl rfl))))))
    rcases q with q | q | q
    · exact Or.inl q
    · exact Or.inr (Or.inl q)
    · exact Or.inr (Or.inr (Or.inl q))
  have Km : Kp [24040, 24041, 24063, 24087, 24088, 24089, 24091] M h hm := by
    rw [← hm1]
    exact Kp.wi (fun k hk => K2 k (fun q => hk (by
      rcases List.mem_cons.mp q with q | q
      · rw [q]; decide
      · rcases List.mem_cons.mp q with q | q
        · rw [q]; decide
        · rcases List.mem_cons.mp q with q | q
          · rw [q]; decide
          · rw [List.mem_singleton.mp q]; decide))) _
  have zm : hm.z = h.z := by rw [← hm1]; exact z2
  have sm : hm.s = h.s := by rw [← hm1]; exact s2
  have am : ∀ x, x ≠ M + 46 → hm.ai x = h2.ai x := fun x hx => by rw [← hm1]; exact AH.ai_wiN hx
  have a46 : hm.ai (M + 46) = ((List.range 32).map (fun i => if i = 0 then (1 : Int32) else 0)) := by rw [← hm1, AH.ai_wiS]
  have km : hm.kd = h2.kd := by rw [← hm1]; rfl
  have rm : hm.r = h2.r := by rw [← hm1]; rfl
  have im : hm.i = h2.i := by rw [← hm1]; rfl
  have Cm : CutAt hm M le cu (unmP c c.length 0) := by
    unfold CutAt at C2 ⊢
    rw [km, rm, im, am le (by omega), am cu (by omega)]
    exact C2
  have Mdm : McA hm M K B := by
    refine ⟨?_, ?_, ?_⟩
    · refine (Md.1.kp (ks := [24063, 24087, 24088, 24089]) kM2 K2 (fun k hk q => ?_) (fun q q1 q2 => ⟨(eM2 q q1 (by omega)).1, by rw [(eM2 q q1 (by omega)).2.2.2.2.1]⟩)).ai km rm (fun q q1 q2 => am q (by omega))
      rcases List.mem_cons.mp q with q | q
      · omega
      · rcases List.mem_cons.mp q with q | q
        · omega
        · rcases List.mem_cons.mp q with q | q
          · omega
          · have := List.mem_singleton.mp q
            omega
    · rw [am _ (by omega), (eM2 (M + 5) (by omega) (by omega)).2.2.2.2.1]; exact Md.2.1
    · rw [am _ (by omega), (eM2 (M + 4) (by omega) (by omega)).2.2.2.2.1]; exact Md.2.2
  have Hsm : HsB hm M ga := ⟨by rw [km, kM2]; exact Hs.1, by rw [rm, kp2 24090 (by decide)]; exact Hs.2.1, by rw [km, eg2.1]; exact Hs.2.2⟩
  have nm46 : ∀ q, p ≤ q → q ≤ p + 7 → q ≠ M + 46 := fun q q1 q2 e => (y3 q q1 q2).1 (by rw [e]; exact Or.inr (Or.inr (Or.inr (Or.inr (Or.inl rfl)))))
  have ng : ∀ q, p + 1 ≤ q → q ≤ p + 7 → q ≠ ga := fun q q1 q2 e => (y3 q (by omega) q2).1 (by rw [e]; exact Or.inr (Or.inr (Or.inr (Or.inl rfl))))
  have Pm : PrS hm p := P2.ai km rm (fun q q1 q2 => am q (nm46 q (by omega) q2))
  have Tm : PrT hm p K B L j t := T2.eq (fun q q1 q2 => by rw [am q (nm46 q (by omega) (by omega))]) (fun i _ => by rw [am _ (nm46 (p + 7) (by omega) (by omega))])
  have na46 : a ≠ M + 46 := fun e => y2 (by rw [e]; exact Or.inr (Or.inr (Or.inr (Or.inr (Or.inl rfl)))))
  have nag : a ≠ ga := fun e => y2 (by rw [e]; exact Or.inr (Or.inr (Or.inr (Or.inl rfl))))
  have kam : hm.kd a = 101 := by rw [km, ea2.1]; exact ka
  have eLm : hm.ai a = L := by rw [am a na46, ea2.2.2.2.2.1]; exact eL
  have rpm : hm.r 26000 p = a := by rw [rm, (ep2 p (by omega) (by omega)).2.1]; exact rp
  have kMm : hm.kd M = 24 := by rw [km, kM2]; exact Hs.1
  have lgm : (hm.ai ga).length = 16384 := by rw [am ga (by omega), eg2.2.2.2.2.1]; exact lga
  have r35m : hm.r 24035 M = M + 46 := by rw [rm, kp2 24035 (by decide)]; exact r35
  have k46m : hm.kd (M + 46) = 101 := by rw [km, (eM2 (M + 46) (by omega) (by omega)).1]; exact k46
  refine hs_14 (t := t) (by rw [kM2]; exact Hs.1) (by rw [kp2 24035 (by decide)]; exact r35) (by rw [(eM2 (M + 46) (by omega) (by omega)).1]; exact k46) (by rw [(eM2 (M + 46) (by omega) (by omega)).2.2.2.2.1]; exact l46) P2.1 P2.2.1.2.2.2.1 P2.2.2.1.2.2.2.1 P2.2.2.2.2.2.2.1 n4 T2.2.2.2.1 hj (by omega) (by omega) (fun h3 => ?_) (fun q1 q2 => ?_)
  · rw [hm1]
    refine hs_62 (cu := le) (le := cu) (c := unmP c c.length 0) (by omega) kMm Hsm Pm rpm kam eLm BL W Tm hj nag ng Cm (by omega) TI hinp hty lgm h3 (fun u v V A R eA lA r14 e14 r15 e15 => ?_)
    rw [e14, show r15 = M + 46 from e15.trans r35m]
    have aX : ∀ x, x ≠ ga → (hxH hm M ga u v V A.length).ai x = hm.ai x := fun x hx => hx_a hx
    have aG : (hxH hm M ga u v V A.length).ai ga = V := hsH_W
    refine (MD_again_spec (h := hxH hm M ga u v V A.length) (off := 0) (n := A.length) (at_ := 0) (by omega) (Mdm.1.ai rfl rfl (fun q q1 q2 => aX q (by omega))) Hsm.2.2 (by rw [aG, R.1]; omega) (by rw [aG, R.1]; decide) (by omega) (fun q => by have := md_rng q; omega) k46m (by rw [aX _ (by omega), a46, mapR_len]; decide) (fun q => by have := md_rng q; omega) (by rw [aX _ (by omega), a46, mapR_len]; decide)).nV (fun h17 Q => ?_)
    obtain ⟨M17, v17⟩ := Q
    rw [aX (M + 46) (by omega), aX (M + 5) (by omega), aX (M + 4) (by omega), aG, Mdm.2.1, Mdm.2.2, putB_all (by rw [a46, mapR_len])] at v17
    have dc : dshD K B A.length (sl V 0) = dshD K B A.length (sl A 0) := dshD_congr (fun i hi => by
      have := congrArg (fun l => l.getD i 0) R.2.2
      try dsimp only at this
      rw [sub_getD hi] at this
      unfold sl
      rw [this, Nat.zero_add])
    rw [dc, eA] at v17
    have nP : ∀ x, M + 46 < x → ¬ (mdQ M x ∨ x = M + 46) := fun x hx q => by
      rcases q with q | q
      · have := md_rng q
        omega
      · omega
    have SX : Same (HaQ M cu le ga) h (hxH hm M ga u v V A.length) := by
      show Same (HaQ M cu le ga) h ((((hm.pi 24041 M u).pi 24040 M v).wi ga V).pi 24091 M (nI A.length))
      exact (((Sm.pi _ _ (Or.inl (Or.inl rfl))).pi _ _ (Or.inl (Or.inl rfl))).wi V (by
        show V.length = (hm.ai ga).length
        rw [R.1, lgm]) (Or.inl (Or.inr (Or.inr (Or.inr (Or.inl rfl)))))).pi _ _ (Or.inl (Or.inl rfl))
    have KX : Kp [24040, 24041, 24063, 24087, 24088, 24089, 24091] M h (hxH hm M ga u v V A.length) := by
      show Kp [24040, 24041, 24063, 24087, 24088, 24089, 24091] M h ((((hm.pi 24041 M u).pi 24040 M v).wi ga V).pi 24091 M (nI A.length))
      exact (Kp.wi ((Km.pi _ _ (Or.inl (by decide))).pi _ _ (Or.inl (by decide))) V).pi _ _ (Or.inl (by decide))
    refine ⟨?_, ?_, SX.mod M17 (fun x _ q => ?_), by rw [M17.z]; exact zm, by rw [M17.s]; exact sm, fun k hk => ?_⟩
    · rw [v17]
      unfold mkP
      rw [if_neg (fun q => by have := h3 q.1; omega)]
    · obtain ⟨c1, c2, c3, c4, c5, c6, c7, c8, c9, c10, c11⟩ := Cm
      have al : h17.ai le = hm.ai le := (M17.ai (nP _ (by omega))).trans (aX le (by omega))
      have ac : h17.ai cu = hm.ai cu := (M17.ai (nP _ (by omega))).trans (aX cu (by omega))
      exact ⟨by rw [M17.kd]; exact c1, by rw [M17.r]; exact c2, by rw [M17.r]; exact c3, c4, by rw [M17.kd]; exact c5, by rw [M17.kd]; exact c6, by rw [al]; exact c7, by rw [ac]; exact c8, by rw [M17.i, hx_i (by decide) (by decide) (by decide)]; exact c9, c10, by rw [al]; exact c11⟩
    · rcases q with q | q
      · exact Or.inr (Or.inr (Or.inr (Or.inr (Or.inr q))))
      · exact Or.inr (Or.inr (Or.inr (Or.inr (Or.inl q))))
    · obtain ⟨k1, k2, k3⟩ := KX k hk
      exact ⟨by rw [M17.r]; exact k1, by rw [M17.i]; exact k2, by rw [M17.l]; exact k3⟩
  · rw [hm1]
    refine ⟨?_, Cm, Sm, zm, sm, Km⟩
    rw [a46]
    unfold mkP
    rw [if_pos ⟨q1, q2⟩]
end Hash2

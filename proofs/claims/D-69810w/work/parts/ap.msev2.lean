/-! the reference: several signatures: the keys -/
set_option maxRecDepth 100000
section MSev2
variable {G : Gx} {d : Nat} {hB h h' h0 : AH} {M Z F O p N I J pp a n j inp : Nat} {K B L : List Int32} {t : TxP} {Bp : Pt} {st alt : List (List Int32)} {fl : Bool} {S : List Int32} {op k m : Nat} {Q : AH → Prop} {R : Option (List (List Int32))}
theorem sv_296 {kl sl : Nat} (hkl : kl < 100) (hsl : sl < 100) (kM : h.kd M = 24) (F1 : h.i 24074 M = 0) (J : Aw G mX24_several (d + 1) 0 h0 (kV Q nE) 164 [vR M, vI (nI op), vJ (lN k), vU, vJ (lN m), vU, vI (nI (st.length - 2)), vI (nI (st.length - 3 - k)), vI (nI sl), vI (nI kl), vI (bB (decide (sl ≤ kl))), vU, vU, vU] [] h) : Aw G mX24_several (d + 1) 0 h0 (kV Q nE) 296 [vR M, vI (nI op), vJ (lN k), vU, vJ (lN m), vU, vI (nI (st.length - 2)), vI (nI (st.length - 3 - k)), vI (nI sl), vI (nI (kl + 1)), vU, vU, vU, vU] [] h := by
  refine sX24_several_296 h M (nI op) (lN k) (lN m) (nI (st.length - 2)) (nI (st.length - 3 - k)) (nI sl) (nI (kl + 1)) ⟨kM, fun _ => ?_, fun q => absurd F1 q⟩
  rw [pk_m1]
  refine pk_lt kl sl (fun c4 => ?_) (fun c4 => ?_)
  · rw [decide_eq_false (show ¬ sl ≤ kl by omega)] at J
    exact J
  · rw [decide_eq_true (show sl ≤ kl by omega)] at J
    exact J
theorem sv_164 {Qf : List Int32 → List Int32 → Bool} (hd : 9 ≤ d) (hop : op < 256) (hm : m ≤ k) (hk : k ≤ 20) (hst : k + m + 3 ≤ st.length) (hs : st.length ≤ 1000) (F0 : hB.i 24074 M = 0) (fin : ∀ h9, OkM hB h9 M Z F O p N I J pp a n j inp K B L t Bp (R.map (fun s => (s, alt))) → Q h9) {sa b e : Nat} (c1 : hB.r 24079 M = sa) (c2 : hB.i 24080 M = nI b) (c3 : hB.i 24081 M = nI e) (ks : hB.kd sa = 101) (eS : hB.ai sa = S) (sO : O + 7 < sa ∧ sa < hB.z) (hbe : b ≤ e) (hl : e ≤ S.length) (hl2 : S.length < 2 ^ 16) (hn : e - b ≤ 1600) (hQ : Qf = fun g k' => sigB p N Bp K B L t inp g k' (clnsF st k (sub_ S b (e - b)) m)) (hO : ∀ ok, mulF Qf st k 1 (k + 2) m = some ok → R = endP (decide (op = 175)) ok (dr st (k + m + 3))) (hN : mulF Qf st k 1 (k + 2) m = none → R = none) : ∀ (kl sl : Nat) (h : AH), kl ≤ k → sl ≤ m → SvI hB h M Z F O p N I J pp a n j inp K B L t Bp st alt → mulF Qf st kl (1 + (k - kl)) (k + 2 + (m - sl)) sl = mulF Qf st k 1 (k + 2) m →
    Aw G mX24_several (d + 1) 0 h0 (kV Q nE) 164 [vR M, vI (nI op), vJ (lN k), vU, vJ (lN m), vU, vI (nI (st.length - 2)), vI (nI (st.length - 3 - k)), vI (nI sl), vI (nI kl), vI (bB (decide (sl ≤ kl))), vU, vU, vU] [] h := by
  intro kl
  have end_ : ∀ (ok : Bool) (v : Int32) (h : AH), v = bB ok → SvI hB h M Z F O p N I J pp a n j inp K B L t Bp st alt → mulF Qf st k 1 (k + 2) m = some ok → Aw G mX24_several (d + 1) 0 h0 (kV Q nE) 324 [vR M, vI (nI op), vJ (lN k), vU, vJ (lN m), vU, vU, vU, vU, vU, vI v, vU, vU, vU] [] h := fun ok v h ev X q => by
    rw [ev]
    exact sv_324 hd hop hm hk hst hs F0 fin (hO ok q) X
  induction kl with
  | zero =>
    intro sl h k1 s1 X hM
    refine sX24_several_164 h M (nI op) (lN k) (lN m) (nI (st.length - 2)) (nI (st.length - 3 - k)) (nI sl) (nI 0) (bB (decide (sl ≤ 0))) ⟨fun z => ?_, fun z => ⟨fun z2 => ?_, fun z2 => ?_⟩⟩
    · have : ¬ sl ≤ 0 := of_decide_eq_false ((bB_0 _).mp z)
      rw [mulF_no _ _ _ _ (show 0 < sl by omega)] at hM
      exact end_ false _ h z X hM.symm
    · by_cases c0 : sl = 0
      · subst c0
        rw [mulF_0] at hM
        exact end_ true _ h rfl X hM.symm
      · exact absurd ((bB_0 _).mpr (decide_eq_false (show ¬ sl ≤ 0 by omega))) z
    · by_cases c0 : sl = 0
      · subst c0
        exact absurd (Int32.le_refl _) z2
      · exact absurd ((bB_0 _).mpr (decide_eq_false (show ¬ sl ≤ 0 by omega))) z
  | succ kl ih =>
    intro sl h k1 s1 X hM
    refine sX24_several_164 h M (nI op) (lN k) (lN m) (nI (st.length - 2)) (nI (st.length - 3 - k)) (nI sl) (nI (kl + 1)) (bB (decide (sl ≤ kl + 1))) ⟨fun z => ?_, fun z => ?_⟩
    · have : ¬ sl ≤ kl + 1 := of_decide_eq_false ((bB_0 _).mp z)
      rw [mulF_no _ _ _ _ (show kl + 1 < sl by omega)] at hM
      exact end_ false _ h z X hM.symm
    · have g1 : sl ≤ kl + 1 := by
        rcases Nat.lt_or_ge (kl + 1) sl with c1 | c1
        · exact absurd ((bB_0 _).mpr (decide_eq_false (show ¬ sl ≤ kl + 1 by omega))) z
        · exact c1
      refine pk_le sl 0 (fun z2 => ?_) (fun z2 => ⟨X.2.2.1.1.1, fun r4 e4 => ?_⟩)
      · obtain rfl : sl = 0 := by omega
        rw [mulF_0] at hM
        rw [decide_eq_true (Nat.zero_le _)]
        exact end_ true _ h rfl X hM.symm
      · obtain ⟨sl, rfl⟩ : ∃ s', sl = s' + 1 := ⟨sl - 1, by omega⟩
        have eM : mulF Qf st (kl + 1) (1 + (k - (kl + 1))) (k + 2 + (m - (sl + 1))) (sl + 1) = if encB (tp st (k + 2 + (m - (sl + 1)))) = false then none else if (decide (0 < (tp st (k + 2 + (m - (sl + 1)))).length) && Qf (tp st (k + 2 + (m - (sl + 1)))) (tp st (1 + (k - (kl + 1))))) = true then mulF Qf st kl (1 + (k - kl)) (k + 2 + (m - sl)) sl else mulF Qf st kl (1 + (k - kl)) (k + 2 + (m - (sl + 1))) (sl + 1) := by
          conv => lhs; unfold mulF
          rw [if_neg (by omega), if_neg (by omega), show 1 + (k - (kl + 1)) + 1 = 1 + (k - kl) by omega, show k + 2 + (m - (sl + 1)) + 1 = k + 2 + (m - sl) by omega]
          rfl
        have KK := X.1.2.2.2
        have hsa := X.1.1.2.2 sa sO.2 (go_no X.2.1.1.1 sO.1)
        have f1 : h.i 24080 M = nI b := (KK 24080 (by decide)).2.1.trans c2
        have f2 : h.i 24081 M = nI e := (KK 24081 (by decide)).2.1.trans c3
        have f3 : r4 = sa := e4.trans ((KK 24079 (by decide)).1.trans c1)
        have n1 : nI (st.length - 3 - k) - ((lN m).toInt32 - nI (sl + 1)) = nI (st.length - 3 - k - (m - (sl + 1))) := by rw [lN_i, pk_sub s1, pk_sub (by omega)]
        have n2 : nI (st.length - 2) - ((lN k).toInt32 - nI (kl + 1)) = nI (st.length - 2 - (k - (kl + 1))) := by rw [lN_i, pk_sub k1, pk_sub (by omega)]
        rw [f1, f2, f3, pk_sub hbe, n1, n2]
        refine m_load (S := S) (by omega) X.2.1 X.2.2 (hsa.1.trans ks) (by rw [hsa.2.2.2.2.1]; exact eS) sO.1 (by omega) (by omega) hn (fun h6 G6 E6 H6 C6 => ?_)
        refine sv_219 (c0 := sub_ S b (e - b)) hd hop hm hk hst hs F0 fin (show kl < k by omega) (show sl < m by omega) (fun h' X' C' => ?_) 0 h6 (Nat.zero_le _) ⟨⟨X.1.trans G6, E6, H6⟩, C6⟩
        obtain ⟨cu, le, hc, C'⟩ := C'
        have q1 : k + 2 + (m - (sl + 1)) < st.length := by omega
        have q2 : 1 + (k - (kl + 1)) < st.length := by omega
        obtain ⟨b1, b2, b3, b4, b5, b6, _, _⟩ := X'.row q1
        obtain ⟨a1, a2, a3, a4, a5, a6, _, _⟩ := X'.row q2
        have tb' := X'.2.1.2.2.2.2.2.2.2.2
        have F1 := X'.1.i74.trans F0
        generalize hg : tp st (k + 2 + (m - (sl + 1))) = g at *
        generalize hky : tp st (1 + (k - (kl + 1))) = ky at *
        have hq : Qf g ky = sigB p N Bp K B L t inp g ky (clnsF st k (sub_ S b (e - b)) m) := by rw [hQ]
        have stay : ∀ h2, SvI hB h2 M Z F O p N I J pp a n j inp K B L t Bp st alt → encB g = true → (decide (0 < g.length) && Qf g ky) = false → Aw G mX24_several (d + 1) 0 h0 (kV Q nE) 296 [vR M, vI (nI op), vJ (lN k), vU, vJ (lN m), vU, vI (nI (st.length - 2)), vI (nI (st.length - 3 - k)), vI (nI (sl + 1)), vI (nI (kl + 1)), vU, vU, vU, vU] [] h2 := fun h2 X2 w1 w2 => by
          rw [if_neg (by rw [w1]; decide), if_neg (by rw [w2]; decide)] at eM
          exact sv_296 (by omega) (by omega) X2.2.2.1.1.1 (X2.1.i74.trans F0) (ih (sl + 1) h2 (by omega) s1 X2 (eM.symm.trans hM))
        refine (MD_isGood_spec (g := g) (k := ky) (by omega) X'.2.1 X'.2.2.1.1 hc C' b3 b4 b5 b6 ⟨b1, b2⟩ a3 a4 a5 a6 ⟨a1, a2⟩ tb' X'.2.2).nI (fun x13 h14 W => ?_)
        rcases W with ⟨w1, w2, w3⟩ | ⟨w1, w2, w3, w4⟩ | ⟨w1, w2, w3, w4, w5⟩
        · rw [w3, w2]
          have eg : encB g = true := by unfold encB; rw [decide_eq_true w1]; rfl
          exact ⟨fun _ => stay h' X' eg (by rw [decide_eq_false (show ¬ 0 < g.length by omega), Bool.false_and]), fun q => absurd rfl q⟩
        · rw [w3]
          refine ⟨fun _ => ?_, fun q => absurd rfl q⟩
          have JJ := (X'.qi F0).fail
          rw [← w4] at JJ
          have f1 : h14.i 24074 M = 1 := JJ.2.1
          refine sX24_several_296 h14 M (nI op) (lN k) (lN m) (nI (st.length - 2)) (nI (st.length - 3 - k)) (nI (sl + 1)) (nI (kl + 1)) ⟨JJ.1.1.1.1, fun q => absurd (f1.symm.trans q) (by decide), fun _ => ?_⟩
          refine fin h14 (OkM.qi X'.1 X'.2.1 X'.2.2.1 JJ (Or.inr ⟨rfl, Or.inl ?_⟩))
          rw [if_pos w2] at eM
          rw [hN (hM.symm.trans eM)]
          rfl
        · have X14 : SvI hB h14 M Z F O p N I J pp a n j inp K B L t Bp st alt := ⟨X'.1.trans w4, w5, (w4.mom X'.2.1.1.1 X'.2.2 tb').1⟩
          rw [← hq] at w3
          rw [w3]
          refine ⟨fun z => stay h14 X14 w2 (by rw [(bB_0 _).mp z, Bool.and_false]), fun z => ?_⟩
          have qt : Qf g ky = true := by
            cases z4 : Qf g ky with
            | true => rfl
            | false => rw [z4] at z; exact absurd rfl z
          rw [if_neg (by rw [w2]; decide), if_pos (by rw [qt, decide_eq_true w1]; rfl)] at eM
          rw [pk_m1]
          exact sv_296 (by omega) (by omega) X14.2.2.1.1.1 (X14.1.i74.trans F0) (ih sl h14 (by omega) (by omega) X14 (eM.symm.trans hM))
end MSev2
